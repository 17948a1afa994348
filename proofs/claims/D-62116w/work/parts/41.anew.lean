/-! new cells -/
abbrev zvc (σ : zS) (x : Int) : Prop := x = -1 ∨ (0 ≤ x ∧ x < σ 71 0)
/-- every reference in the state is null or names a cell that there is -/
def zWf (σ : zS) : Prop :=
  (∀ i : Int, 0 ≤ i → i < σ 70 0 → zvn σ (σ 2 i) ∧ zvn σ (σ 3 i) ∧ zvn σ (σ 5 i) ∧ zvc σ (σ 14 i)) ∧
  (∀ l : Nat, l < 5 → ∀ i : Int, 0 ≤ i → i < σ 40 l → zvn σ (σ (41 + l) i)) ∧
  (∀ i : Int, 0 ≤ i → i < σ 40 5 → zvc σ (σ 46 i)) ∧
  (∀ i : Int, 0 ≤ i → zvn σ (σ 50 i) ∧ zvn σ (σ 51 i)) ∧
  (∀ i : Int, 0 ≤ i → i < σ 71 0 → zvp σ (σ 25 i)) ∧
  (∀ i : Int, 0 ≤ i → i < σ 72 0 → (σ 30 i = 0 ∨ zvp σ (σ 31 i)) ∧ (σ 30 i = 0 ∨ σ 30 i = 1 ∨ zvp σ (σ 32 i)))
theorem zro_ag {ad ad' : zA} {σ : zS} (h : ∀ u ∈ zids σ, ad' u = ad u) {x : Int} (hx : zvn σ x) : zro ad' 4 x = zro ad 4 x := by
  unfold zro
  rcases hx with rfl | ⟨h0, h1⟩
  · rfl
  · rw [h _ (zids_node h0 h1)]
theorem zro_agC {ad ad' : zA} {σ : zS} (h : ∀ u ∈ zids σ, ad' u = ad u) {x : Int} (hx : zvc σ x) : zro ad' 5 x = zro ad 5 x := by
  unfold zro
  rcases hx with rfl | ⟨h0, h1⟩
  · rfl
  · rw [h _ (zids_cell h0 h1)]
theorem zro_agP {ad ad' : zA} {σ : zS} (h : ∀ u ∈ zids σ, ad' u = ad u) {x : Int} (hx : zvp σ x) : zro ad' 6 x = zro ad 6 x := by
  unfold zro
  rcases hx with rfl | ⟨h0, h1⟩
  · rfl
  · rw [h _ (zids_pat h0 h1)]
theorem zids_four {σ : zS} {i : Nat} (h : (4, i) ∈ zids σ) : (i : Int) < σ 70 0 := by
  simp only [zids, List.mem_append, List.mem_map] at h
  rcases h with (((h | ⟨j, hj, q⟩) | ⟨j, hj, q⟩) | ⟨_, _, q⟩) | ⟨_, _, q⟩
  · have : ∀ t ∈ zfix, t.1 ≠ 4 := by decide +kernel
    exact absurd rfl (this _ h)
  · cases q
  · cases q
    have := List.mem_range.mp hj
    omega
  all_goals cases q
theorem zids_five {σ : zS} {i : Nat} (h : (5, i) ∈ zids σ) : (i : Int) < σ 71 0 := by
  simp only [zids, List.mem_append, List.mem_map] at h
  rcases h with (((h | ⟨j, hj, q⟩) | ⟨j, hj, q⟩) | ⟨j, hj, q⟩) | ⟨_, _, q⟩
  · have : ∀ t ∈ zfix, t.1 ≠ 5 := by decide +kernel
    exact absurd rfl (this _ h)
  · cases q
  · cases q
  · cases q
    have := List.mem_range.mp hj
    omega
  · cases q
theorem zids_six {σ : zS} {i : Nat} (h : (6, i) ∈ zids σ) : (i : Int) < σ 72 0 := by
  simp only [zids, List.mem_append, List.mem_map] at h
  rcases h with (((h | ⟨j, hj, q⟩) | ⟨j, hj, q⟩) | ⟨j, hj, q⟩) | ⟨j, hj, q⟩
  · have : ∀ t ∈ zfix, t.1 ≠ 6 := by decide +kernel
    exact absurd rfl (this _ h)
  · cases q
  · cases q
  · cases q
  · cases q
    have := List.mem_range.mp hj
    omega
theorem inl_q {c n : Nat} {f f' : Nat → Option Nat} (h : ∀ x, f x = f' x) : (Sum.inl (c, n, Sum.inr (Sum.inr (Sum.inr (Sum.inr f)))) : va_E) = Sum.inl (c, n, Sum.inr (Sum.inr (Sum.inr (Sum.inr f')))) := by rw [show f = f' from funext h]
/-- another address map that keeps the cells that there are -/
theorem ct_ad {g : zG} {ad ad' : zA} {σ : zS} (hw : zWf σ) (hls : zLs σ) (h : ∀ u ∈ zids σ, ad' u = ad u) {t : zT} (ht : t ∈ zids σ) : ct g ad' σ t = ct g ad σ t := by
  obtain ⟨w1, w2, w3, w4, w5, w6⟩ := hw
  have hf : ∀ {u : zT}, u ∈ zfix → ad' u = ad u := fun hu => h _ (zids_fix hu)
  have hz := zids_sort ht
  obtain ⟨a, b⟩ := t
  rcases a with _ | _ | _ | _ | _ | _ | _ | a
  · have hb := zids_zero ht
    rcases (show b = 0 ∨ b = 1 ∨ b = 2 ∨ b = 3 by omega) with rfl | rfl | rfl | rfl
    · simp only [ct, ctX]
      congr 2
      apply List.map_congr_left
      intro q hq
      have e : ∀ q ∈ xtab, ∀ t, q.1 = some t → t ∈ zfix := by decide +kernel
      cases hn : q.1 with
      | some t => simp only [hf (e q hq t hn)]
      | none => rfl
    · simp only [ct, hf (zfix_l (l := 0) (by decide))]
    · rfl
    · simp only [ct, ctM]
      congr 2
      apply List.map_congr_left
      intro j hj
      cases hn : mAr j with
      | some x => simp only [hf (zfix_m (List.mem_range.mp hj) (by rw [hn]; rfl))]
      | none => rfl
  · simp only [ct, ctL]
    by_cases hc : 0 < σ 47 b
    · have hb : b < 6 := by
        simp only [zids, List.mem_append, List.mem_map] at ht
        rcases ht with (((h | ⟨_, _, q⟩) | ⟨_, _, q⟩) | ⟨_, _, q⟩) | ⟨_, _, q⟩
        · have : ∀ t ∈ zfix, t.1 = 1 → t.2 < 6 := by decide +kernel
          exact this _ h rfl
        all_goals cases q
      rw [h _ (zids_ea hb hc)]
    · rw [if_neg hc, if_neg hc]
  · have hb := (zids_two ht).1
    simp only [ct, ctE]
    refine inl_q (fun x => ?_)
    obtain ⟨-, -, -, hr⟩ := hls b hb
    by_cases hx : (x : Int) < σ 40 b
    · by_cases h5 : b = 5
      · subst h5
        exact zro_agC h (w3 x (by omega) hx)
      · rw [if_neg h5]
        exact zro_ag h (w2 b (by omega) x (by omega) hx)
    · rw [hr x (by omega)]
      rfl
  · have hb := zids_three ht
    rcases (show b = 0 ∨ b = 1 ∨ b = 2 ∨ b = 3 ∨ b = 4 by omega) with rfl | rfl | rfl | rfl | rfl
    · simp only [ct, ctY]
      refine inl_q (fun x => ?_)
      exact zro_ag h (w4 x (by omega)).1
    · simp only [ct, ctY]
      refine inl_q (fun x => ?_)
      exact zro_ag h (w4 x (by omega)).2
    · rfl
    · rfl
    · rfl
  · obtain ⟨v1, v2, v3, v4⟩ := w1 b (by omega) (zids_four ht)
    simp only [ct, ctN]
    congr 2
    apply List.map_congr_left
    intro f hf
    have := List.mem_range.mp hf
    rcases (show f = 2 ∨ f = 3 ∨ f = 5 ∨ f = 14 ∨ (f ≠ 2 ∧ f ≠ 3 ∧ f ≠ 5 ∧ f ≠ 14) by omega) with rfl | rfl | rfl | rfl | ⟨q1, q2, q3, q4⟩
    · exact congrArg va_rf (zro_ag h v1)
    · exact congrArg va_rf (zro_ag h v2)
    · exact congrArg va_rf (zro_ag h v3)
    · exact congrArg va_rf (zro_agC h v4)
    · unfold nv
      split <;> first | rfl | contradiction
  · simp only [ct, ctC]
    congr 2
    apply List.map_congr_left
    intro f hf
    have := List.mem_range.mp hf
    by_cases h5 : f = 5
    · subst h5
      exact congrArg va_rf (zro_agP h (w5 b (by omega) (zids_five ht)))
    · unfold cv
      split <;> first | rfl | contradiction
  · obtain ⟨v1, v2⟩ := w6 b (by omega) (zids_six ht)
    simp only [ct, ctP]
    by_cases s0 : σ 30 b = 0
    · rw [if_pos s0, if_pos s0]
    · have e1 : zr ad' 6 (σ 31 b) = zr ad 6 (σ 31 b) := congrArg va_rf (zro_agP h (by rcases v1 with q | q; exact absurd q s0; exact q))
      rw [if_neg s0, if_neg s0, e1]
      by_cases s1 : σ 30 b = 1
      · rw [if_pos s1, if_pos s1]
      · have e2 : zr ad' 6 (σ 32 b) = zr ad 6 (σ 32 b) := congrArg va_rf (zro_agP h (by rcases v2 with q | q | q; exact absurd q s0; exact absurd q s1; exact q))
        rw [if_neg s1, if_neg s1, e2]
  · rfl
theorem zP_iff {D : va_G} {g : zG} {ad : zA} {σ : zS} {H : Heap} : zP D g ad σ H ↔ ∀ t ∈ zids σ, va_at D classes (ad t, ct g ad σ t) H := by
  constructor
  · intro h t ht
    obtain ⟨q, -, hq⟩ := gw_get (ad := ad) (ct := ct g ad σ) ht
    exact h q _ hq
  · intro h k q hk
    rw [gw, List.getElem?_map] at hk
    cases ht : (zids σ)[k]? with
    | none => rw [ht] at hk; cases hk
    | some t =>
      rw [ht] at hk
      cases hk
      exact h t (List.mem_of_getElem? ht)
def adup (ad : zA) (t : zT) (q : Nat) : zA := fun u => if u = t then q else ad u
/-- one cell more: what is to be shown of the new state -/
theorem z_grow {D : va_G} {g : zG} {ad : zA} {σ τ : zS} {A : Nat → Prop} {s : State} {H H1 : Heap} {locs : List Loc} {q : Nat} {e : va_E} {t0 : zT} (hw : zWf σ) (ho : zOK D A s g ad σ H locs)
    (hP : va_P D classes (gw (zids σ) ad (ct g ad σ) ++ [(q, e)]) H1) (hDn : va_D A (gw (zids σ) ad (ct g ad σ) ++ [(q, e)])) (hS : va_S A s.heap H1 locs)
    (hnew : t0 ∉ zids σ) (hids : ∀ t, t ∈ zids τ ↔ (t = t0 ∨ t ∈ zids σ)) (hnd : (zids τ).Nodup) (hls : zLs τ) (hold : ∀ t ∈ zids σ, ct g (adup ad t0 q) τ t = ct g (adup ad t0 q) σ t) (hat : ct g (adup ad t0 q) τ t0 = e) :
    zOK D A s g (adup ad t0 q) τ H1 locs := by
  have hag : ∀ u ∈ zids σ, adup ad t0 q u = ad u := fun u hu => by unfold adup; rw [if_neg (fun h => hnew (by rw [← h]; exact hu))]
  have h0 : adup ad t0 q t0 = q := if_pos rfl
  have hl : (gw (zids σ) ad (ct g ad σ)).length = (zids σ).length := by simp [gw]
  have hlast : (gw (zids σ) ad (ct g ad σ) ++ [(q, e)])[(zids σ).length]? = some (q, e) := by
    rw [List.getElem?_append_right (by omega), hl, Nat.sub_self]
    rfl
  have hin : ∀ {u : zT}, u ∈ zids σ → ∃ k, k < (zids σ).length ∧ (zids σ)[k]? = some u ∧ (gw (zids σ) ad (ct g ad σ) ++ [(q, e)])[k]? = some (ad u, ct g ad σ u) := by
    intro u hu
    obtain ⟨k, h1, h2⟩ := gw_get (ad := ad) (ct := ct g ad σ) hu
    have hk := (List.getElem?_eq_some_iff.mp h1).1
    exact ⟨k, hk, h1, by rw [List.getElem?_append_left (by omega)]; exact h2⟩
  refine ⟨zP_iff.mpr fun t ht => ?_, ⟨fun t ht u hu heq => ?_, fun t ht => ?_, hnd, hls⟩, hS⟩
  · rcases (hids t).mp ht with rfl | ht
    · rw [h0, hat]
      exact hP _ _ hlast
    · obtain ⟨k, -, -, h2⟩ := hin ht
      rw [hag t ht, hold t ht, ct_ad hw ho.2.1.2.2.2 hag ht]
      exact hP k _ h2
  · rcases (hids t).mp ht with rfl | ht <;> rcases (hids u).mp hu with rfl | hu
    · rfl
    · rw [h0, hag u hu] at heq
      obtain ⟨k, hk, -, h2⟩ := hin hu
      have := hDn.1 _ _ _ _ hlast h2 heq
      omega
    · rw [h0, hag t ht] at heq
      obtain ⟨k, hk, -, h2⟩ := hin ht
      have := hDn.1 _ _ _ _ h2 hlast heq
      omega
    · rw [hag t ht, hag u hu] at heq
      exact ho.2.1.1 t ht u hu heq
  · rcases (hids t).mp ht with rfl | ht
    · rw [h0]
      exact hDn.2 _ _ hlast
    · rw [hag t ht]
      exact ho.2.1.2.1 t ht
