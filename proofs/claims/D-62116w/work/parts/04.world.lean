/-! the world: cells by (sort, number): 0: the single objects (CellMapper, Graph, Digits, CellMapperModel), 1: the six lists, 2: their arrays, 3: CellMapper's arrays, 4: nodes, 5: cells, 6: patterns, 7: the model's arrays (by their field) -/
abbrev zT : Type := Nat × Nat
/-- the classes of the arrays (int, boolean, long, Object, Node), the lists' empty array, the kinds -/
abbrev zG : Type := (Nat → ClassId) × Nat × (Nat → Nat)
abbrev zA : Type := zT → Nat
def gw (ids : List zT) (ad : zA) (ct : zT → va_E) : va_W := ids.map fun t => (ad t, ct t)
/-- the model's fields: an array's kind (0 int, 1 boolean, 2 long) and length; none for a number -/
def mtab : List (Option (Nat × Nat)) := [none, some (0, 40), some (0, 40), some (0, 40), some (0, 40), some (0, 40), some (0, 40), some (0, 40), some (0, 40), some (0, 40), some (0, 40), none, none, none, some (0, 48), some (0, 48), some (0, 48), some (0, 48), none, some (0, 4), none, some (0, 8), some (0, 8), some (0, 8), none, some (1, 48), some (1, 48), some (0, 48), some (0, 48), some (0, 48), some (0, 48), some (1, 48), some (0, 8), some (0, 4), none, some (0, 196), some (0, 196), some (2, 196), some (0, 196), some (2, 196), some (2, 196), some (0, 2304), some (0, 2304), some (0, 48), none, none, some (0, 2304), some (0, 48), some (1, 48), some (0, 48), some (0, 8)]
def mAr (j : Nat) : Option (Nat × Nat) := mtab.getD j none
def zro (ad : zA) (t : Nat) (v : Int) : Option Nat := if v < 0 then none else some (ad (t, v.toNat))
def zr (ad : zA) (t : Nat) (v : Int) : Value := va_rf (zro ad t v)
theorem zr_s (ad : zA) (t : Nat) {v : Int} (h : 0 ≤ v) : zr ad t v = .ref (ad (t, v.toNat)) := by
  unfold zr zro
  rw [if_neg (by omega)]
  rfl
theorem zr_n (ad : zA) (t : Nat) {v : Int} (h : v < 0) : zr ad t v = .null := by
  unfold zr zro
  rw [if_pos h]
  rfl
/-- CellMapper's fields: an object of the world, or a number of a family -/
def xtab : List (Option zT × Nat) := [(some (0, 1), 0), (some (1, 0), 0), (some (1, 1), 0), (some (1, 2), 0), (some (1, 3), 0), (some (1, 4), 0), (some (1, 5), 0), (some (0, 2), 0), (none, 56), (some (3, 0), 0), (some (3, 1), 0), (some (3, 2), 0), (some (3, 3), 0), (some (3, 4), 0), (none, 57), (none, 58), (none, 59), (none, 60)]
def ctX (ad : zA) (σ : zS) : List Value := xtab.map fun q => match q.1 with
  | some t => Value.ref (ad t)
  | none => .int (zi (σ q.2 0))
def ctM (ad : zA) (σ : zS) : List Value := (List.range 51).map fun j => match mAr j with
  | some _ => Value.ref (ad (7, j))
  | none => .int (zi (σ (100 + j) 0))
/-- a kind, or null -/
def kv (g : zG) (x : Int) : Value := va_rf (if x < 0 then none else some (g.2.2 x.toNat))
theorem kv_s (g : zG) {x : Int} (h : 0 ≤ x) : kv g x = .ref (g.2.2 x.toNat) := by
  unfold kv
  rw [if_neg (by omega)]
  rfl
theorem kv_n (g : zG) {x : Int} (h : x < 0) : kv g x = .null := by
  unfold kv
  rw [if_pos h]
  rfl
/-- a node's field, a cell's -/
def nv (g : zG) (ad : zA) (f : Nat) (v : Int) : Value := match f with
  | 1 => kv g v
  | 2 => zr ad 4 v
  | 3 => zr ad 4 v
  | 5 => zr ad 4 v
  | 14 => zr ad 5 v
  | _ => .int (zi v)
def cv (ad : zA) (f : Nat) (v : Int) : Value := match f with
  | 5 => zr ad 6 v
  | _ => .int (zi v)
def ctN (g : zG) (ad : zA) (σ : zS) (i : Nat) : List Value := (List.range 18).map fun f => nv g ad f (σ f i)
def ctC (ad : zA) (σ : zS) (i : Nat) : List Value := (List.range 6).map fun f => cv ad f (σ (20 + f) i)
def ctL (g : zG) (ad : zA) (σ : zS) (i : Nat) : List Value := [.ref (if 0 < σ 47 i then ad (2, i) else g.2.1), .int (zi (σ 40 i)), .int (zi (σ 48 i))]
def ctP (ad : zA) (σ : zS) (i : Nat) : va_E := if σ 30 i = 0 then .inr (6, [.int (zi (σ 31 i))]) else if σ 30 i = 1 then .inr (7, [zr ad 6 (σ 31 i)]) else .inr (8, [zr ad 6 (σ 31 i), zr ad 6 (σ 32 i)])
def ctA (g : zG) (σ : zS) (j : Nat) : va_E := match mAr j with
  | some (0, n) => .inl (g.1 0, n, .inl fun x => zi (σ (100 + j) x))
  | some (1, n) => .inl (g.1 1, n, .inl fun x => zi (σ (100 + j) x))
  | some (_, n) => .inl (g.1 2, n, .inr (.inl fun x => zj (σ (100 + j) x)))
  | none => .inr (0, [])
def ctY (g : zG) (ad : zA) (σ : zS) (j : Nat) : va_E := match j with
  | 0 => .inl (g.1 4, 196, .inr (.inr (.inr (.inr fun x => zro ad 4 (σ 50 x)))))
  | 1 => .inl (g.1 4, 196, .inr (.inr (.inr (.inr fun x => zro ad 4 (σ 51 x)))))
  | 2 => .inl (g.1 0, 196, .inl fun x => zi (σ 52 x))
  | 3 => .inl (g.1 2, 196, .inr (.inl fun x => zj (σ 53 x)))
  | _ => .inl (g.1 2, 196, .inr (.inl fun x => zj (σ 54 x)))
def ctE (g : zG) (ad : zA) (σ : zS) (l : Nat) : va_E := .inl (g.1 3, (σ 47 l).toNat, .inr (.inr (.inr (.inr fun x => zro ad (if l = 5 then 5 else 4) (σ (41 + l) x)))))
/-- what a cell holds -/
def ct (g : zG) (ad : zA) (σ : zS) (t : zT) : va_E := match t.1 with
  | 0 => (match t.2 with
    | 0 => .inr (1, ctX ad σ)
    | 1 => .inr (2, [.ref (ad (1, 0))])
    | 2 => .inr (3, [.int (zi (σ 61 0)), .int (zi (σ 62 0))])
    | _ => .inr (9, ctM ad σ))
  | 1 => .inr (0, ctL g ad σ t.2)
  | 2 => ctE g ad σ t.2
  | 3 => ctY g ad σ t.2
  | 4 => .inr (4, ctN g ad σ t.2)
  | 5 => .inr (5, ctC ad σ t.2)
  | 6 => ctP ad σ t.2
  | _ => ctA g σ t.2
/-- which cells there are -/
def zfix : List zT := [(0, 0), (0, 1), (0, 2), (0, 3)] ++ (List.range 6).map (fun i => (1, i)) ++ (List.range 5).map (fun i => (3, i)) ++ ((List.range 51).filter (fun j => (mAr j).isSome)).map (fun j => (7, j))
def zids (σ : zS) : List zT := zfix ++ ((List.range 6).filter (fun i : Nat => decide (0 < σ 47 i))).map (fun i => (2, i)) ++ (List.range (σ 70 0).toNat).map (fun i => (4, i)) ++ (List.range (σ 71 0).toNat).map (fun i => (5, i)) ++ (List.range (σ 72 0).toNat).map (fun i => (6, i))
theorem zids_fix {σ : zS} {t : zT} (h : t ∈ zfix) : t ∈ zids σ := by simp only [zids, List.mem_append]; exact Or.inl (Or.inl (Or.inl (Or.inl h)))
theorem zids_node {σ : zS} {i : Int} (h0 : 0 ≤ i) (h : i < σ 70 0) : (4, i.toNat) ∈ zids σ := by
  simp only [zids, List.mem_append]
  exact Or.inl (Or.inl (Or.inr (List.mem_map.mpr ⟨i.toNat, List.mem_range.mpr (by omega), rfl⟩)))
theorem zids_cell {σ : zS} {i : Int} (h0 : 0 ≤ i) (h : i < σ 71 0) : (5, i.toNat) ∈ zids σ := by
  simp only [zids, List.mem_append]
  exact Or.inl (Or.inr (List.mem_map.mpr ⟨i.toNat, List.mem_range.mpr (by omega), rfl⟩))
theorem zids_pat {σ : zS} {i : Int} (h0 : 0 ≤ i) (h : i < σ 72 0) : (6, i.toNat) ∈ zids σ := by
  simp only [zids, List.mem_append]
  exact Or.inr (List.mem_map.mpr ⟨i.toNat, List.mem_range.mpr (by omega), rfl⟩)
theorem zids_ea {σ : zS} {l : Nat} (h : l < 6) (h0 : 0 < σ 47 l) : (2, l) ∈ zids σ := by
  simp only [zids, List.mem_append]
  exact Or.inl (Or.inl (Or.inl (Or.inr (List.mem_map.mpr ⟨l, List.mem_filter.mpr ⟨List.mem_range.mpr h, by simpa using h0⟩, rfl⟩))))
theorem zfix_m {j : Nat} (hj : j < 51) (h : (mAr j).isSome = true) : (7, j) ∈ zfix := by
  simp only [zfix, List.mem_append]
  exact Or.inr (List.mem_map.mpr ⟨j, List.mem_filter.mpr ⟨List.mem_range.mpr hj, h⟩, rfl⟩)
theorem zfix_0 : (0, 0) ∈ zfix := by decide
theorem zfix_1 : (0, 1) ∈ zfix := by decide
theorem zfix_2 : (0, 2) ∈ zfix := by decide
theorem zfix_3 : (0, 3) ∈ zfix := by decide
theorem zfix_l {l : Nat} (h : l < 6) : (1, l) ∈ zfix := by
  simp only [zfix, List.mem_append]
  exact Or.inl (Or.inl (Or.inr (List.mem_map.mpr ⟨l, List.mem_range.mpr h, rfl⟩)))
theorem zfix_y {l : Nat} (h : l < 5) : (3, l) ∈ zfix := by
  simp only [zfix, List.mem_append]
  exact Or.inl (Or.inr (List.mem_map.mpr ⟨l, List.mem_range.mpr h, rfl⟩))
theorem gw_get {ids : List zT} {ad : zA} {ct : zT → va_E} {t : zT} (h : t ∈ ids) : ∃ k : Nat, ids[k]? = some t ∧ (gw ids ad ct)[k]? = some (ad t, ct t) := by
  obtain ⟨k, hk⟩ := List.getElem?_of_mem h
  exact ⟨k, hk, by rw [gw, List.getElem?_map, hk]; rfl⟩
theorem gw_set {A : Nat → Prop} {ids : List zT} {ad : zA} {ct ct' : zT → va_E} {t : zT} {k : Nat} {e : va_E} (hD : va_D A (gw ids ad ct)) (hk : ids[k]? = some t) (he : ct' t = e) (hne : ∀ u ∈ ids, u ≠ t → ct' u = ct u) : (gw ids ad ct).set k (ad t, e) = gw ids ad ct' := by
  have hk2 : (gw ids ad ct)[k]? = some (ad t, ct t) := by rw [gw, List.getElem?_map, hk]; rfl
  have hl := (List.getElem?_eq_some_iff.mp hk2).1
  apply List.ext_getElem?
  intro j
  by_cases hj : j = k
  · subst hj
    rw [List.getElem?_set_self hl, gw, List.getElem?_map, hk, ← he]
    rfl
  · rw [List.getElem?_set_ne (Ne.symm hj)]
    simp only [gw, List.getElem?_map]
    cases hu : ids[j]? with
    | none => rfl
    | some u =>
      have hne2 : u ≠ t := by
        intro h
        subst h
        have h2 : (gw ids ad ct)[j]? = some (ad u, ct u) := by rw [gw, List.getElem?_map, hu]; rfl
        exact hj (hD.1 j k _ _ h2 hk2 rfl)
      simp only [Option.map_some, hne u (List.mem_of_getElem? hu) hne2]
/-- the machine holds the state -/
def zP (D : va_G) (g : zG) (ad : zA) (σ : zS) (H : Heap) : Prop := va_P D classes (gw (zids σ) ad (ct g ad σ)) H
/-- the lists: their sizes within their arrays -/
def zLs (σ : zS) : Prop := ∀ l : Nat, l < 6 → 0 ≤ σ 40 l ∧ σ 40 l ≤ σ 47 l ∧ σ 47 l ≤ 1000 ∧ ∀ i : Int, σ 40 l ≤ i → σ (41 + l) i = -1
def zD (A : Nat → Prop) (ad : zA) (σ : zS) : Prop := (∀ t ∈ zids σ, ∀ u ∈ zids σ, ad t = ad u → t = u) ∧ (∀ t ∈ zids σ, A (ad t)) ∧ (zids σ).Nodup ∧ zLs σ
theorem zD_va {A : Nat → Prop} {ad : zA} {σ : zS} (h : zD A ad σ) (c : zT → va_E) : va_D A (gw (zids σ) ad c) := by
  have key : ∀ (k : Nat) (q : Nat × va_E), (gw (zids σ) ad c)[k]? = some q → ∃ t, (zids σ)[k]? = some t ∧ q = (ad t, c t) := by
    intro k q hq
    rw [gw, List.getElem?_map] at hq
    cases ht : (zids σ)[k]? with
    | none => rw [ht] at hq; cases hq
    | some t => rw [ht] at hq; exact ⟨t, rfl, (Option.some.inj hq).symm⟩
  refine ⟨fun i j x y hi hj hxy => ?_, fun k q hk => ?_⟩
  · obtain ⟨t, h1, rfl⟩ := key i x hi
    obtain ⟨u, h2, rfl⟩ := key j y hj
    have e := h.1 t (List.mem_of_getElem? h1) u (List.mem_of_getElem? h2) hxy
    subst e
    have hi' := (List.getElem?_eq_some_iff.mp h1).1
    exact (List.getElem?_inj hi' h.2.2.1).mp (h1.trans h2.symm)
  · obtain ⟨t, h1, rfl⟩ := key k q hk
    exact h.2.1 t (List.mem_of_getElem? h1)
/-- the arrays' classes, as va_K has them -/
def ztys (g : zG) : List (ClassId × FieldType) := [(g.1 0, .int), (g.1 1, .boolean), (g.1 2, .long), (g.1 3, .object "java/lang/Object"), (g.1 4, .object "CellMapper$Node")]
def zOK (D : va_G) (A : Nat → Prop) (s : State) (g : zG) (ad : zA) (σ : zS) (H : Heap) (locs : List Loc) : Prop := zP D g ad σ H ∧ zD A ad σ ∧ va_S A s.heap H locs
