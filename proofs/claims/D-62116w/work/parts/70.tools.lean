/-! STAGE 2: plain; no program in sight. Tools: frames, sums, counts -/
/-- τ is σ but for the families of ks -/
def zsm (ks : List Nat) (σ τ : zS) : Prop := ∀ k, k ∉ ks → τ k = σ k
theorem zsm.rf {ks : List Nat} {σ : zS} : zsm ks σ σ := fun _ _ => rfl
theorem zsm.trans {ks : List Nat} {σ τ υ : zS} (h : zsm ks σ τ) (h2 : zsm ks τ υ) : zsm ks σ υ := fun k hk => (h2 k hk).trans (h k hk)
theorem zsm.mono {ks ks' : List Nat} {σ τ : zS} (h : zsm ks σ τ) (hs : ∀ k ∈ ks, k ∈ ks') : zsm ks' σ τ := fun k hk => h k (fun q => hk (hs k q))
theorem zsm.up {ks : List Nat} {σ τ : zS} {k : Nat} {i v : Int} (h : zsm ks σ τ) (hk : k ∈ ks) : zsm ks σ (zup τ k i v) := fun k' hk' => (zup_f τ i v (fun q : k' = k => hk' (by rw [q]; exact hk))).trans (h k' hk')
theorem zsm_up {ks : List Nat} {σ : zS} {k : Nat} {i v : Int} (hk : k ∈ ks) : zsm ks σ (zup σ k i v) := zsm.rf.up hk
/-- sums of f at 0 .. n - 1 -/
def zsum (f : Int → Int) : Nat → Int
  | 0 => 0
  | n + 1 => zsum f n + f n
theorem zsum_congr {f g : Int → Int} : ∀ (n : Nat), (∀ i : Int, 0 ≤ i → i < n → f i = g i) → zsum f n = zsum g n
  | 0, _ => rfl
  | n + 1, h => by
    have := zsum_congr n (fun i h0 h1 => h i h0 (by omega))
    simp only [zsum]
    rw [this, h n (by omega) (by omega)]
theorem zsum_le {f g : Int → Int} : ∀ (n : Nat), (∀ i : Int, 0 ≤ i → i < n → f i ≤ g i) → zsum f n ≤ zsum g n
  | 0, _ => by simp [zsum]
  | n + 1, h => by
    have := zsum_le n (fun i h0 h1 => h i h0 (by omega))
    have := h n (by omega) (by omega)
    simp only [zsum]
    omega
/-- a place where they differ -/
theorem zsum_le1 {f g : Int → Int} {d x : Int} : ∀ (n : Nat), (∀ i : Int, 0 ≤ i → i < n → f i ≤ g i) → 0 ≤ x → x < n → f x + d ≤ g x → zsum f n + d ≤ zsum g n
  | 0, _, h0, h1, _ => absurd h1 (by omega)
  | n + 1, h, h0, h1, hd => by
    simp only [zsum]
    by_cases hx : x = n
    · subst hx
      have := zsum_le n (fun i h0 h1 => h i h0 (by omega))
      omega
    · have := zsum_le1 n (fun i h0 h1 => h i h0 (by omega)) h0 (by omega) hd
      have := h n (by omega) (by omega)
      omega
theorem zsum_le2 {f g : Int → Int} {d e x y : Int} : ∀ (n : Nat), (∀ i : Int, 0 ≤ i → i < n → f i ≤ g i) → 0 ≤ x → x < n → 0 ≤ y → y < n → x ≠ y → f x + d ≤ g x → f y + e ≤ g y → zsum f n + d + e ≤ zsum g n
  | 0, _, h0, h1, _, _, _, _, _ => absurd h1 (by omega)
  | n + 1, h, h0, h1, y0, y1, hne, hd, he => by
    simp only [zsum]
    have hn := h n (by omega) (by omega)
    by_cases hx : x = n
    · subst hx
      have := zsum_le1 (d := e) (x := y) n (fun i h0 h1 => h i h0 (by omega)) y0 (by omega) he
      omega
    · by_cases hy : y = n
      · subst hy
        have := zsum_le1 (d := d) (x := x) n (fun i h0 h1 => h i h0 (by omega)) h0 (by omega) hd
        omega
      · have := zsum_le2 n (fun i h0 h1 => h i h0 (by omega)) h0 (by omega) y0 (by omega) hne hd he
        omega
theorem zsum_const (c : Int) : ∀ n : Nat, zsum (fun _ => c) n = c * n
  | 0 => by simp [zsum]
  | n + 1 => by
    simp only [zsum, zsum_const c n]
    rw [show ((n + 1 : Nat) : Int) = (n : Int) + 1 by omega, Int.mul_add]
    omega
/-- 1 where it holds -/
noncomputable def ind (p : Prop) : Int := @ite Int p (Classical.propDecidable p) 1 0
theorem ind_t {p : Prop} (h : p) : ind p = 1 := @if_pos p (Classical.propDecidable p) h Int 1 0
theorem ind_f {p : Prop} (h : ¬ p) : ind p = 0 := @if_neg p (Classical.propDecidable p) h Int 1 0
theorem ind_01 (p : Prop) : ind p = 0 ∨ ind p = 1 := by
  by_cases h : p
  · exact Or.inr (ind_t h)
  · exact Or.inl (ind_f h)
theorem ind_le {p q : Prop} (h : p → q) : ind p ≤ ind q := by
  by_cases hp : p
  · rw [ind_t hp, ind_t (h hp)]; omega
  · rw [ind_f hp]; rcases ind_01 q with e | e <;> omega
theorem ind_iff {p q : Prop} (h : p ↔ q) : ind p = ind q := by rw [propext h]
theorem ind_eq1 {p : Prop} : ind p = 1 ↔ p := ⟨fun h => Classical.byContradiction fun q => by rw [ind_f q] at h; omega, ind_t⟩
theorem ind_eq0 {p : Prop} : ind p = 0 ↔ ¬ p := ⟨fun h q => by rw [ind_t q] at h; omega, ind_f⟩
/-- how many of 0 .. n - 1 -/
noncomputable def cnt (p : Int → Prop) (n : Nat) : Int := zsum (fun i => ind (p i)) n
theorem cnt_ge (p : Int → Prop) (n : Nat) : 0 ≤ cnt p n := by
  have := zsum_le (f := fun _ => 0) (g := fun i => ind (p i)) n (fun i _ _ => by rcases ind_01 (p i) with e | e <;> omega)
  rw [zsum_const] at this
  simpa [cnt] using this
theorem cnt_le (p : Int → Prop) (n : Nat) : cnt p n ≤ n := by
  have := zsum_le (f := fun i => ind (p i)) (g := fun _ => 1) n (fun i _ _ => by rcases ind_01 (p i) with e | e <;> omega)
  rw [zsum_const] at this
  simpa [cnt] using this
theorem cnt_mono {p q : Int → Prop} (n : Nat) (h : ∀ i : Int, 0 ≤ i → i < n → p i → q i) : cnt p n ≤ cnt q n := zsum_le n (fun i h0 h1 => ind_le (h i h0 h1))
theorem cnt_lt {p q : Int → Prop} (n : Nat) (h : ∀ i : Int, 0 ≤ i → i < n → p i → q i) {x : Int} (h0 : 0 ≤ x) (h1 : x < n) (hp : ¬ p x) (hq : q x) : cnt p n + 1 ≤ cnt q n := zsum_le1 n (fun i h0 h1 => ind_le (h i h0 h1)) h0 h1 (by rw [ind_f hp, ind_t hq]; omega)
theorem cnt_congr {p q : Int → Prop} (n : Nat) (h : ∀ i : Int, 0 ≤ i → i < n → (p i ↔ q i)) : cnt p n = cnt q n := zsum_congr n (fun i h0 h1 => ind_iff (h i h0 h1))
/-- all are counted -/
theorem cnt_all {p : Int → Prop} (n : Nat) (h : (n : Int) ≤ cnt p n) {x : Int} (h0 : 0 ≤ x) (h1 : x < n) : p x := Classical.byContradiction fun q => by
  have := cnt_lt (p := p) (q := fun _ => True) n (fun _ _ _ _ => trivial) h0 h1 q trivial
  have := cnt_le (fun _ => True) n
  omega
theorem cnt_pos {p : Int → Prop} (n : Nat) {x : Int} (h0 : 0 ≤ x) (h1 : x < n) (h : p x) : 1 ≤ cnt p n := by
  have h2 := cnt_lt (p := fun _ => False) (q := p) n (fun _ _ _ q => q.elim) h0 h1 (fun q => q) h
  have := cnt_ge (fun _ => False) n
  omega
theorem cnt_two {p : Int → Prop} (n : Nat) {x y : Int} (h0 : 0 ≤ x) (h1 : x < n) (hx : p x) (y0 : 0 ≤ y) (y1 : y < n) (hy : p y) (hne : x ≠ y) : 2 ≤ cnt p n := by
  have h2 := cnt_lt (p := fun i => i = x) (q := p) n (fun i _ _ q => q ▸ hx) y0 y1 (fun q => hne q.symm) hy
  have := cnt_pos (p := fun i => i = x) n h0 h1 rfl
  omega
theorem cnt_none {p : Int → Prop} (n : Nat) (h : ∀ i : Int, 0 ≤ i → i < n → ¬ p i) : cnt p n = 0 := by
  rw [cnt_congr (q := fun _ => False) n (fun i h0 h1 => ⟨fun q => h i h0 h1 q, fun q => q.elim⟩)]
  show zsum (fun _ => ind False) n = 0
  rw [ind_f (fun h => h), zsum_const]
  simp
theorem cnt_ex {p : Int → Prop} (n : Nat) (h : 1 ≤ cnt p n) : ∃ i : Int, 0 ≤ i ∧ i < n ∧ p i := Classical.byContradiction fun q => by
  rw [cnt_none n (fun i h0 h1 h2 => q ⟨i, h0, h1, h2⟩)] at h
  omega
/-- small bit operations -/
theorem z_and3 {d : Int} (h0 : 0 ≤ d) (h1 : d < 2147483648) : zand d 3 = d % 4 := by
  have h := Jvm.Kit.i32_mask (k := 2) (zi d) 3 (by decide) (by decide)
  have e : (zi d).toInt = d := zi_toInt (by omega)
  rw [e] at h
  exact h
theorem gtest {f g : Int → Int} {n : Int} (h : ∀ i, i ≠ n → f i = g i) (hf : f n = 3) (hg : ∀ i, 0 ≤ i → i < n → 0 ≤ g i) : ∀ i, 0 ≤ i → i < n + 1 → 0 ≤ f i := by grind
