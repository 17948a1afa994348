/-! an input or a latch more, the model's side -/
def mleaf (τ υ : zS) (L : Gr) (c : Nat) (k f : Int) : Prop := zsm [c, 100, 101, 102, 103, 104, 105, 113, 114, 115, 116, 117, 124] τ υ ∧ mG υ (L ++ [(k, -1, -1)]) ∧ υ c 0 = τ c 0 + 1 ∧ (∀ i : Int, υ 117 i = if i = L.length then τ 100 0 else τ 117 i) ∧ υ 100 0 = τ 100 0 + 1 ∧ (∀ j : Int, υ 101 j = if j = τ 100 0 then k else τ 101 j) ∧ (∀ j : Int, υ 102 j = if j = τ 100 0 then (L.length : Int) else τ 102 j) ∧ (∀ j : Int, υ 103 j = if j = τ 100 0 then f else τ 103 j) ∧ (∀ j : Int, υ 105 j = if j = τ 100 0 then -1 else τ 105 j) ∧ υ 124 0 = 0 ∧ ∀ j : Int, 0 ≤ j → j < τ 100 0 + 1 → υ 104 j = υ 103 j
theorem sm_leaf {τ : zS} {L : Gr} {Q : Int → zS → Prop} {c : Nat} {k f : Int} (hc : c = 111 ∨ c = 112) (hk : k = 0 ∨ k = 1) (h : mG τ L) (hl : (L.length : Int) < 48) (n0 : 0 ≤ τ 100 0) (n1 : τ 100 0 < 40) (hQ : ∀ υ, mleaf τ υ L c k f → Q (τ 100 0) υ) : wp_MM_newNode (fun r σ5 => wp_MM_newNet Q k r f σ5) k (-1) (-1) (zup τ c 0 (τ c 0 + 1) 100 0) (zup τ c 0 (τ c 0 + 1)) := by
  have hg : mG (zup τ c 0 (τ c 0 + 1)) L := h.sm (zup_ne _ _ _ _ (by omega)) (zup_f _ _ _ (by omega)) (zup_f _ _ _ (by omega)) (zup_f _ _ _ (by omega))
  have e113 : zup τ c 0 (τ c 0 + 1) 113 0 = L.length := hg.1
  have e100 : zup τ c 0 (τ c 0 + 1) 100 0 = τ 100 0 := zup_ne _ _ _ _ (by omega)
  rw [e100]
  refine sm_newNode (by omega) (by omega) ?_
  rw [e113]
  have hg2 := mnode_G (k := k) (x := -1) (y := -1) (net := τ 100 0) hg (gleaf_ok h.2.1 hk)
  have M : ∀ (g : Nat) (i : Int), mnode (zup τ c 0 (τ c 0 + 1)) k (-1) (-1) (τ 100 0) g i = if g = c ∧ i = 0 then τ c 0 + 1 else if g = 113 ∧ i = 0 then (L.length : Int) + 1 else if g = 114 ∧ i = L.length then k else if (g = 115 ∨ g = 116) ∧ i = L.length then -1 else if g = 117 ∧ i = L.length then τ 100 0 else τ g i := fun g i => by
    unfold mnode
    rw [e113]
    have c1 : ¬ 113 = c := by omega
    have c2 : ¬ 114 = c := by omega
    have c3 : ¬ 115 = c := by omega
    have c4 : ¬ 116 = c := by omega
    have c5 : ¬ 117 = c := by omega
    by_cases a1 : g = 113
    · subst a1
      by_cases a2 : i = 0 <;> simp [zup, a2, c1]
    · by_cases a3 : g = 117
      · subst a3
        by_cases a2 : i = L.length <;> simp [zup, a2, c5]
      · by_cases a4 : g = 116
        · subst a4
          by_cases a2 : i = L.length <;> simp [zup, a2, c4]
        · by_cases a5 : g = 115
          · subst a5
            by_cases a2 : i = L.length <;> simp [zup, a2, c3]
          · by_cases a6 : g = 114
            · subst a6
              by_cases a2 : i = L.length <;> simp [zup, a2, c2]
            · by_cases a7 : g = c
              · subst a7
                by_cases a2 : i = 0 <;> simp [zup, a1, a3, a4, a5, a6, a2]
              · simp [zup, a1, a3, a4, a5, a6, a7]
  have m100 : mnode (zup τ c 0 (τ c 0 + 1)) k (-1) (-1) (τ 100 0) 100 0 = τ 100 0 := by
    rw [M, if_neg (by omega), if_neg (by omega), if_neg (by omega), if_neg (by omega), if_neg (by omega)]
  refine sm_newNet (by rw [m100]; exact n0) (by rw [m100]; exact n1) (fun υ hu => ?_)
  rw [m100]
  obtain ⟨u1, u2, u3⟩ := hu
  -- out of the node's state
  have W : ∀ (g : Nat), g ≠ 100 → g ≠ 101 → g ≠ 102 → g ≠ 103 → g ≠ 104 → g ≠ 105 → g ≠ 124 → υ g = mnode (zup τ c 0 (τ c 0 + 1)) k (-1) (-1) (τ 100 0) g := fun g a1 a2 a3 a4 a5 a6 a7 => by
    rw [u1 g (by simp [a5, a7])]
    unfold mnet
    rw [zup_f _ _ _ a1, zup_f _ _ _ a6, zup_f _ _ _ a4, zup_f _ _ _ a3, zup_f _ _ _ a2]
  have R : ∀ (g : Nat) (i : Int), 100 ≤ g → g ≤ 105 → mnode (zup τ c 0 (τ c 0 + 1)) k (-1) (-1) (τ 100 0) g i = τ g i := fun g i a b => by
    rw [M, if_neg (by omega), if_neg (by omega), if_neg (by omega), if_neg (by omega), if_neg (by omega)]
  have v103 : ∀ j : Int, υ 103 j = if j = τ 100 0 then f else τ 103 j := fun j => by
    rw [u1 103 (by decide)]
    unfold mnet
    rw [zup_f _ _ _ (by decide), zup_f _ _ _ (by decide), zup_or, m100, zup_f _ _ _ (by decide), zup_f _ _ _ (by decide), R 103 j (by decide) (by decide)]
  refine hQ υ ⟨fun g hg => ?_, ?_, ?_, fun i => ?_, ?_, fun j => ?_, fun j => ?_, v103, fun j => ?_, u2, fun j j0 j1 => ?_⟩
  · simp only [List.mem_cons, List.not_mem_nil, or_false, not_or] at hg
    rw [W g (by omega) (by omega) (by omega) (by omega) (by omega) (by omega) (by omega)]
    funext i
    rw [M, if_neg (by omega), if_neg (by omega), if_neg (by omega), if_neg (by omega), if_neg (by omega)]
  · exact hg2.sm (by rw [W 113 (by decide) (by decide) (by decide) (by decide) (by decide) (by decide) (by decide)]) (W 114 (by decide) (by decide) (by decide) (by decide) (by decide) (by decide) (by decide)) (W 115 (by decide) (by decide) (by decide) (by decide) (by decide) (by decide) (by decide)) (W 116 (by decide) (by decide) (by decide) (by decide) (by decide) (by decide) (by decide))
  · rw [W c (by omega) (by omega) (by omega) (by omega) (by omega) (by omega) (by omega), M, if_pos ⟨rfl, rfl⟩]
  · rw [W 117 (by decide) (by decide) (by decide) (by decide) (by decide) (by decide) (by decide), M, if_neg (by omega), if_neg (by omega), if_neg (by omega), if_neg (by omega)]
    by_cases e : i = L.length
    · rw [if_pos ⟨rfl, e⟩, if_pos e]
    · rw [if_neg (fun q => e q.2), if_neg e]
  · rw [u1 100 (by decide)]
    unfold mnet
    rw [zup_at, m100]
  · rw [u1 101 (by decide)]
    unfold mnet
    rw [zup_f _ _ _ (by decide), zup_f _ _ _ (by decide), zup_f _ _ _ (by decide), zup_f _ _ _ (by decide), zup_or, m100, R 101 j (by decide) (by decide)]
  · rw [u1 102 (by decide)]
    unfold mnet
    rw [zup_f _ _ _ (by decide), zup_f _ _ _ (by decide), zup_f _ _ _ (by decide), zup_or, m100, zup_f _ _ _ (by decide), R 102 j (by decide) (by decide)]
  · rw [u1 105 (by decide)]
    unfold mnet
    rw [zup_f _ _ _ (by decide), zup_or, m100, zup_f _ _ _ (by decide), zup_f _ _ _ (by decide), zup_f _ _ _ (by decide), R 105 j (by decide) (by decide)]
  · have e : mnet (mnode (zup τ c 0 (τ c 0 + 1)) k (-1) (-1) (τ 100 0)) k L.length f 100 0 = τ 100 0 + 1 := by
      unfold mnet
      rw [zup_at, m100]
    rw [u3 j j0 (by rw [e]; exact j1), u1 103 (by decide)]
