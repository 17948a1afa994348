/-! input, latch: both sides -/
theorem op_input {σ : zS} {L : Gr} {pt : Int → Pat} {Q : zS → Prop} (h : BW σ L pt) (hQ : Q σ) (hQ2 : ∀ υ L', BW υ L' pt → υ 56 0 = 0 → Q υ) : wp_CX_input (fun r τ => wp_MM_input (fun r' υ => r' = r ∧ Q υ) τ) σ := by
  have n0 := h.n0
  have n1 := h.n1
  have n2 := h.n2
  have i0 := h.i0
  have i1 := h.i1
  have i2 := h.i2
  have l0 := h.l0
  have l1 := h.l1
  have e113 := h.e113
  have hlen := h.len
  refine sx_input h.xg h.len n0 n1 i0 i1 l0 l1 h.lat7 (fun hF => ?_) (fun a1 a2 a3 τ hx => ?_)
  · exact ⟨by omega, fun _ => ⟨rfl, hQ⟩, fun _ => ⟨by omega, fun _ => ⟨rfl, hQ⟩, fun _ => ⟨by omega, fun q => absurd q (by omega), fun _ => ⟨rfl, hQ⟩⟩⟩⟩
  · have T : ∀ f, 100 ≤ f → τ f = σ f := fun f hf => hx.1 f (by simp [xleafk]; omega)
    have t100 : τ 100 0 = σ 40 1 := by rw [T 100 (by decide)]; exact n2
    have t111 : τ 111 0 = σ 40 2 := by rw [T 111 (by decide)]; exact i2
    have t113 : τ 113 0 = L.length := by rw [T 113 (by decide)]; exact e113
    refine ⟨by omega, fun q => absurd q (by omega), fun _ => ⟨by omega, fun q => absurd q (by omega), fun _ => ⟨by omega, fun _ => ?_, fun q => absurd q (by omega)⟩⟩⟩
    rintro _ rfl
    have hg : mG τ L := h.mg.sm (by rw [T 113 (by decide)]) (T 114 (by decide)) (T 115 (by decide)) (T 116 (by decide))
    refine sm_leaf (c := 111) (k := 0) (f := 0) (Or.inl rfl) (Or.inl rfl) hg a3 (by omega) (by omega) (fun υ hm => ⟨t100, ?_⟩)
    have hb := BW_input h a3 a1 a2 hx hm
    refine hQ2 υ _ hb ?_
    rw [hm.1 56 (by decide)]
    exact hx.2.2.2.2.2.2.2.2.2.2.1
theorem op_latch {σ : zS} {L : Gr} {pt : Int → Pat} {Q : zS → Prop} {v : Int} (h : BW σ L pt) (hv : zc v) (hQ : Q σ) (hQ2 : ∀ υ L', BW υ L' pt → υ 56 0 = 0 → Q υ) : wp_CX_latch (fun r τ => wp_MM_latch (fun r' υ => r' = r ∧ Q υ) v τ) v σ := by
  have n0 := h.n0
  have n1 := h.n1
  have n2 := h.n2
  have l0 := h.l0
  have l1 := h.l1
  have l2 := h.l2
  have e113 := h.e113
  have hlen := h.len
  refine sx_latch h.xg hv h.len n0 n1 l0 l1 h.lat7 (fun hB => ?_) (fun hv1 hF => ?_) (fun hv1 a1 a2 a3 τ hx => ?_)
  · exact ⟨hv, fun _ => ⟨rfl, hQ⟩, fun _ => ⟨fun q => absurd q (by omega), fun _ => ⟨rfl, hQ⟩⟩⟩
  · exact ⟨hv, fun q => absurd q (by omega), fun _ => ⟨fun _ => ⟨by omega, fun _ => ⟨rfl, hQ⟩, fun _ => ⟨by omega, fun _ => ⟨rfl, hQ⟩, fun _ => ⟨by omega, fun q => absurd q (by omega), fun _ => ⟨rfl, hQ⟩⟩⟩⟩, fun q => absurd q (by omega)⟩⟩
  · have T : ∀ f, 100 ≤ f → τ f = σ f := fun f hf => hx.1 f (by simp [xleafk]; omega)
    have t100 : τ 100 0 = σ 40 1 := by rw [T 100 (by decide)]; exact n2
    have t112 : τ 112 0 = σ 40 3 := by rw [T 112 (by decide)]; exact l2
    have t113 : τ 113 0 = L.length := by rw [T 113 (by decide)]; exact e113
    refine ⟨hv, fun q => absurd q (by omega), fun _ => ⟨fun _ => ⟨by omega, fun q => absurd q (by omega), fun _ => ⟨by omega, fun q => absurd q (by omega), fun _ => ⟨by omega, fun _ => ?_, fun q => absurd q (by omega)⟩⟩⟩, fun q => absurd q (by omega)⟩⟩
    rintro _ rfl
    have hg : mG τ L := h.mg.sm (by rw [T 113 (by decide)]) (T 114 (by decide)) (T 115 (by decide)) (T 116 (by decide))
    refine sm_leaf (c := 112) (k := 1) (f := v) (Or.inr rfl) (Or.inr rfl) hg a3 (by omega) (by omega) (fun υ hm => ⟨t100, ?_⟩)
    have hb := BW_latch h a3 a1 a2 hv1 hx hm
    refine hQ2 υ _ hb ?_
    rw [hm.1 56 (by decide)]
    exact hx.2.2.2.2.2.2.2.2.2.2.1
