/-! the world as the constructors leave it -/
def zσ0 : zS := fun k _ => if (41 ≤ k ∧ k ≤ 46) ∨ k = 50 ∨ k = 51 then -1 else 0
def kord : List zT := [(0, 0), (0, 1), (1, 0), (1, 1), (1, 2), (1, 3), (1, 4), (1, 5), (0, 2), (3, 0), (3, 1), (3, 2), (3, 3), (3, 4), (0, 3)] ++ ((List.range 51).filter (fun j => (mAr j).isSome)).map (fun j => (7, j))
def kidx (t : zT) : Nat := match t.1 with
  | 0 => (match t.2 with
    | 0 => 0
    | 1 => 1
    | 2 => 8
    | _ => 14)
  | 1 => 2 + t.2
  | 3 => 9 + t.2
  | _ => 15 + ((List.range t.2).filter (fun j => (mAr j).isSome)).length
def kad (qs : List Nat) : zA := fun t => qs.getD (kidx t) 0
theorem zids0 : ∀ t ∈ zids zσ0, t ∈ kord := by decide +kernel
theorem nod0 : (zids zσ0).Nodup := by decide +kernel
theorem zLs0 : zLs zσ0 := by
  intro l hl
  have e40 : zσ0 40 l = 0 := by unfold zσ0; rw [if_neg (by omega)]
  have e47 : zσ0 47 l = 0 := by unfold zσ0; rw [if_neg (by omega)]
  rw [e40, e47]
  exact ⟨by omega, by omega, by omega, fun i _ => by unfold zσ0; rw [if_pos (by omega)]⟩
theorem z_world0 {D : va_G} {g : zG} {A : Nat → Prop} {s : State} {ad : zA} {ws : va_W} {σ : zS} {H : Heap} {locs : List Loc} (hw : gw kord ad (ct g ad zσ0) = ws) (ho : kOK D A s ws σ H locs) : zOK D A s g ad zσ0 H locs := by
  subst hw
  obtain ⟨hP, hD, hS⟩ := ho
  refine ⟨zP_iff.mpr fun t ht => ?_, ⟨fun t ht u hu he => ?_, fun t ht => ?_, nod0, zLs0⟩, hS⟩
  · obtain ⟨k, -, hk⟩ := gw_get (ad := ad) (ct := ct g ad zσ0) (zids0 t ht)
    exact hP k _ hk
  · obtain ⟨k, hk0, hk⟩ := gw_get (ad := ad) (ct := ct g ad zσ0) (zids0 t ht)
    obtain ⟨j, hj0, hj⟩ := gw_get (ad := ad) (ct := ct g ad zσ0) (zids0 u hu)
    have := hD.1 k j _ _ hk hj he
    subst this
    exact Option.some.inj (hk0.symm.trans hj0)
  · obtain ⟨k, -, hk⟩ := gw_get (ad := ad) (ct := ct g ad zσ0) (zids0 t ht)
    exact hD.2 k _ hk
set_option maxRecDepth 20000 in
theorem kworld (g : zG) (a qg q0 q1 q2 q3 q4 q5 qd r0 r1 r2 r3 r4 am a1 a2 a3 a4 a5 a6 a7 a8 a9 a10 a14 a15 a16 a17 a19 a21 a22 a23 a25 a26 a27 a28 a29 a30 a31 a32 a33 a35 a36 a37 a38 a39 a40 a41 a42 a43 a46 a47 a48 a49 a50 : Nat) : gw kord (kad [a, qg, q0, q1, q2, q3, q4, q5, qd, r0, r1, r2, r3, r4, am, a1, a2, a3, a4, a5, a6, a7, a8, a9, a10, a14, a15, a16, a17, a19, a21, a22, a23, a25, a26, a27, a28, a29, a30, a31, a32, a33, a35, a36, a37, a38, a39, a40, a41, a42, a43, a46, a47, a48, a49, a50]) (ct g (kad [a, qg, q0, q1, q2, q3, q4, q5, qd, r0, r1, r2, r3, r4, am, a1, a2, a3, a4, a5, a6, a7, a8, a9, a10, a14, a15, a16, a17, a19, a21, a22, a23, a25, a26, a27, a28, a29, a30, a31, a32, a33, a35, a36, a37, a38, a39, a40, a41, a42, a43, a46, a47, a48, a49, a50]) zσ0) = cxW g a qg q0 q1 q2 q3 q4 q5 qd r0 r1 r2 r3 r4 ++ mmW g am a1 a2 a3 a4 a5 a6 a7 a8 a9 a10 a14 a15 a16 a17 a19 a21 a22 a23 a25 a26 a27 a28 a29 a30 a31 a32 a33 a35 a36 a37 a38 a39 a40 a41 a42 a43 a46 a47 a48 a49 a50 := rfl
