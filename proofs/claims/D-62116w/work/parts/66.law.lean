/-! the law of one step: both classes do the operation, their answers are the same (printed by gen/law.py) -/
def wp_op (j : Nat) (a b c d : Int) (Q : zS → Prop) (σ : zS) : Prop := match j with
  | 0 => wp_CX_input (fun r τ => wp_MM_input (fun r' υ => r' = r ∧ Q υ) τ) σ
  | 1 => wp_CX_latch (fun r τ => wp_MM_latch (fun r' υ => r' = r ∧ Q υ) a τ) a σ
  | 2 => wp_CX_function (fun r τ => wp_MM_function (fun r' υ => r' = r ∧ Q υ) a b c d τ) a b c d σ
  | 3 => wp_CX_drive (fun r τ => wp_MM_drive (fun r' υ => r' = r ∧ Q υ) a b τ) a b σ
  | 4 => wp_CX_output (fun r τ => wp_MM_output (fun r' υ => r' = r ∧ Q υ) a τ) a σ
  | 5 => wp_CX_cell (fun r τ => wp_MM_cell (fun r' υ => r' = r ∧ Q υ) a b c τ) a b c σ
  | 6 => wp_CX_nodes (fun r τ => wp_MM_nodes (fun r' υ => r' = r ∧ Q υ) τ) σ
  | 7 => wp_CX_nodeOf (fun r τ => wp_MM_nodeOf (fun r' υ => r' = r ∧ Q υ) a τ) a σ
  | 8 => wp_CX_part (fun r τ => wp_MM_part (fun r' υ => r' = r ∧ Q υ) a b τ) a b σ
  | 9 => wp_CX_map (fun r τ => wp_MM_map (fun r' υ => r' = r ∧ Q υ) τ) σ
  | 10 => wp_CX_area (fun r τ => wp_MM_area (fun r' υ => r' = r ∧ Q υ) τ) σ
  | 11 => wp_CX_cellAt (fun r τ => wp_MM_cellAt (fun r' υ => r' = r ∧ Q υ) a τ) a σ
  | 12 => wp_CX_period (fun r τ => wp_MM_period (fun r' υ => r' = r ∧ Q υ) τ) σ
  | 13 => wp_CX_shortest (fun r τ => wp_MM_shortest (fun r' υ => r' = r ∧ Q υ) τ) σ
  | 14 => wp_CX_moves (fun r τ => wp_MM_moves (fun r' υ => r' = r ∧ Q υ) a τ) a σ
  | 15 => wp_CX_latches (fun r τ => wp_MM_latches (fun r' υ => r' = r ∧ Q υ) a b τ) a b σ
  | 16 => wp_CX_clock (fun r τ => wp_MM_clock (fun r' υ => r' = r ∧ Q υ) a τ) a σ
  | 17 => wp_CX_clockRetimed (fun r τ => wp_MM_clockRetimed (fun r' υ => r' = r ∧ Q υ) a τ) a σ
  | 18 => wp_CX_reset (fun τ => wp_MM_reset Q τ) σ
  | _ => Q σ
section ZLC
variable {E : zE} {D : va_G} {g : zG} {b Ln : Nat} {xs : Nat → Int32} {ad : zA} {σ : zS} {k n : Nat} {i : Int} {Q : zS → Prop}
set_option maxRecDepth 20000 in
theorem lw_c0 (X : lwX E D g b Ln xs) (h0 : 0 ≤ i) (h1 : i + 5 ≤ Ln) (hkn : k + 300 ≤ 600000 ∧ n + 4000 ≤ 7302250) (h : wp_op 0 (xs (i + 1).toNat).toInt (xs (i + 2).toNat).toInt (xs (i + 3).toNat).toInt (xs (i + 4).toNat).toInt Q σ) (kk : ∀ ad τ, Q τ → zW E (zOK D (fun q => (zst E).heap.size ≤ q) (zst E) g ad) (k + 300) (n + 4000) 570 (lcl b i ad) [] τ) : zW E (zOK D (fun q => (zst E).heap.size ≤ q) (zst E) g ad) k n 124 (lcl b i ad) [] σ := by
  obtain ⟨C, S, hX, hbl, hLn⟩ := id X
  have h : wp_CX_input (fun r τ => wp_MM_input (fun r' υ => r' = r ∧ Q υ) τ) σ := h
  refine z_aload_n C (show decode code 124 = .ok (.aload_n 1, 1) by decide +kernel) 1 rfl ?_
  refine xa_callVi (Lf := lcl b i) (stf := fun _ => []) (As := []) C S (fun _ h => h) fy_CX_input (0, 0) (zids_fix zfix_0) rfl rfl wd_142 (show decode code 125 = .ok (.invokevirtual 13, 3) by decide +kernel) ⟨rfl, rfl, Nat.le_of_ble_eq_true rfl, Nat.le_of_ble_eq_true rfl⟩ ⟨by show k + 4 ≤ 600000; omega, by show n + 318 ≤ 7302250; omega⟩ rfl rfl (Nat.le_of_ble_eq_true rfl) (fun ad' hg => ⟨?_, rfl⟩) h (fun h sz => c_CX_input (zln E) D g ad  _ σ h sz) (fun r τ ad2 hX2 hq => ?_)
  · unfold lcl
    rw [zo_ag hg zfix_0 (by decide), zo_ag hg zfix_3 (by decide)]
  refine z_aload_n C (show decode code 128 = .ok (.aload_n 2, 1) by decide +kernel) 2 rfl ?_
  refine l_calli (L := lcl b i ad2) (st := [.int (zi r)]) (As := []) C fy_MM_input rfl wd_859 (show decode code 129 = .ok (.invokevirtual 17, 3) by decide +kernel) ⟨rfl, rfl, Nat.le_of_ble_eq_true rfl, Nat.le_of_ble_eq_true rfl⟩ ⟨by show k + 4 ≤ 600000; omega, by show n + 318 ≤ 7302250; omega⟩ rfl rfl (Nat.le_of_ble_eq_true rfl) hq (fun h => c_MM_input (zln E) D g ad2  _ τ h) (fun r2 υ hq2 => ?_)
  obtain ⟨rfl, hq3⟩ := hq2
  refine l_same (tgt := 570) C (show decode code 132 = .ok (.if_icmp .eq 438, 3) by decide +kernel) rfl ?_
  exact (kk ad2 υ hq3).widen (by dsimp only; omega) (by dsimp only; omega)
set_option maxRecDepth 20000 in
theorem lw_c1 (X : lwX E D g b Ln xs) (h0 : 0 ≤ i) (h1 : i + 5 ≤ Ln) (hkn : k + 300 ≤ 600000 ∧ n + 4000 ≤ 7302250) (h : wp_op 1 (xs (i + 1).toNat).toInt (xs (i + 2).toNat).toInt (xs (i + 3).toNat).toInt (xs (i + 4).toNat).toInt Q σ) (kk : ∀ ad τ, Q τ → zW E (zOK D (fun q => (zst E).heap.size ≤ q) (zst E) g ad) (k + 300) (n + 4000) 570 (lcl b i ad) [] τ) : zW E (zOK D (fun q => (zst E).heap.size ≤ q) (zst E) g ad) k n 137 (lcl b i ad) [] σ := by
  obtain ⟨C, S, hX, hbl, hLn⟩ := id X
  have h : wp_CX_latch (fun r τ => wp_MM_latch (fun r' υ => r' = r ∧ Q υ) (xs (i + 1).toNat).toInt τ) (xs (i + 1).toNat).toInt σ := h
  refine z_aload_n C (show decode code 137 = .ok (.aload_n 1, 1) by decide +kernel) 1 rfl ?_
  refine l_arg X h0 h1 1 (by decide) (by decide) (show decode code 138 = .ok (.aload_n 0, 1) by decide +kernel) (show decode code 139 = .ok (.iload_n 3, 1) by decide +kernel) (show decode code 140 = .ok (.iconst 1, 1) by decide +kernel) (show decode code 141 = .ok (.iadd, 1) by decide +kernel) (show decode code 142 = .ok (.iaload, 1) by decide +kernel) ?_
  refine xa_callVi (Lf := lcl b i) (stf := fun _ => []) (As := [.int (zi (xs (i + 1).toNat).toInt)]) C S (fun _ h => h) fy_CX_latch (0, 0) (zids_fix zfix_0) rfl rfl wd_320 (show decode code 143 = .ok (.invokevirtual 18, 3) by decide +kernel) ⟨rfl, rfl, Nat.le_of_ble_eq_true rfl, Nat.le_of_ble_eq_true rfl⟩ ⟨by show k + 4 ≤ 600000; omega, by show n + 318 ≤ 7302250; omega⟩ rfl rfl (Nat.le_of_ble_eq_true rfl) (fun ad' hg => ⟨?_, rfl⟩) h (fun h sz => c_CX_latch (zln E) D g ad (xs (i + 1).toNat).toInt _ σ h sz) (fun r τ ad2 hX2 hq => ?_)
  · unfold lcl
    rw [zo_ag hg zfix_0 (by decide), zo_ag hg zfix_3 (by decide)]
  refine z_aload_n C (show decode code 146 = .ok (.aload_n 2, 1) by decide +kernel) 2 rfl ?_
  refine z_sub (L' := lcl b i ad2) [0, 1, 2, 3] rfl ?_
  refine l_arg X h0 h1 1 (by decide) (by decide) (show decode code 147 = .ok (.aload_n 0, 1) by decide +kernel) (show decode code 148 = .ok (.iload_n 3, 1) by decide +kernel) (show decode code 149 = .ok (.iconst 1, 1) by decide +kernel) (show decode code 150 = .ok (.iadd, 1) by decide +kernel) (show decode code 151 = .ok (.iaload, 1) by decide +kernel) ?_
  refine l_calli (L := lcl b i ad2) (st := [.int (zi r)]) (As := [.int (zi (xs (i + 1).toNat).toInt)]) C fy_MM_latch rfl wd_875 (show decode code 152 = .ok (.invokevirtual 22, 3) by decide +kernel) ⟨rfl, rfl, Nat.le_of_ble_eq_true rfl, Nat.le_of_ble_eq_true rfl⟩ ⟨by show k + 4 ≤ 600000; omega, by show n + 318 ≤ 7302250; omega⟩ rfl rfl (Nat.le_of_ble_eq_true rfl) hq (fun h => c_MM_latch (zln E) D g ad2 (xs (i + 1).toNat).toInt _ τ h) (fun r2 υ hq2 => ?_)
  obtain ⟨rfl, hq3⟩ := hq2
  refine l_same (tgt := 570) C (show decode code 155 = .ok (.if_icmp .eq 415, 3) by decide +kernel) rfl ?_
  exact (kk ad2 υ hq3).widen (by dsimp only; omega) (by dsimp only; omega)
set_option maxRecDepth 20000 in
theorem lw_c2 (X : lwX E D g b Ln xs) (h0 : 0 ≤ i) (h1 : i + 5 ≤ Ln) (hkn : k + 300 ≤ 600000 ∧ n + 4000 ≤ 7302250) (h : wp_op 2 (xs (i + 1).toNat).toInt (xs (i + 2).toNat).toInt (xs (i + 3).toNat).toInt (xs (i + 4).toNat).toInt Q σ) (kk : ∀ ad τ, Q τ → zW E (zOK D (fun q => (zst E).heap.size ≤ q) (zst E) g ad) (k + 300) (n + 4000) 570 (lcl b i ad) [] τ) : zW E (zOK D (fun q => (zst E).heap.size ≤ q) (zst E) g ad) k n 160 (lcl b i ad) [] σ := by
  obtain ⟨C, S, hX, hbl, hLn⟩ := id X
  have h : wp_CX_function (fun r τ => wp_MM_function (fun r' υ => r' = r ∧ Q υ) (xs (i + 1).toNat).toInt (xs (i + 2).toNat).toInt (xs (i + 3).toNat).toInt (xs (i + 4).toNat).toInt τ) (xs (i + 1).toNat).toInt (xs (i + 2).toNat).toInt (xs (i + 3).toNat).toInt (xs (i + 4).toNat).toInt σ := h
  refine z_aload_n C (show decode code 160 = .ok (.aload_n 1, 1) by decide +kernel) 1 rfl ?_
  refine l_arg X h0 h1 1 (by decide) (by decide) (show decode code 161 = .ok (.aload_n 0, 1) by decide +kernel) (show decode code 162 = .ok (.iload_n 3, 1) by decide +kernel) (show decode code 163 = .ok (.iconst 1, 1) by decide +kernel) (show decode code 164 = .ok (.iadd, 1) by decide +kernel) (show decode code 165 = .ok (.iaload, 1) by decide +kernel) ?_
  refine l_arg X h0 h1 2 (by decide) (by decide) (show decode code 166 = .ok (.aload_n 0, 1) by decide +kernel) (show decode code 167 = .ok (.iload_n 3, 1) by decide +kernel) (show decode code 168 = .ok (.iconst 2, 1) by decide +kernel) (show decode code 169 = .ok (.iadd, 1) by decide +kernel) (show decode code 170 = .ok (.iaload, 1) by decide +kernel) ?_
  refine l_arg X h0 h1 3 (by decide) (by decide) (show decode code 171 = .ok (.aload_n 0, 1) by decide +kernel) (show decode code 172 = .ok (.iload_n 3, 1) by decide +kernel) (show decode code 173 = .ok (.iconst 3, 1) by decide +kernel) (show decode code 174 = .ok (.iadd, 1) by decide +kernel) (show decode code 175 = .ok (.iaload, 1) by decide +kernel) ?_
  refine l_arg X h0 h1 4 (by decide) (by decide) (show decode code 176 = .ok (.aload_n 0, 1) by decide +kernel) (show decode code 177 = .ok (.iload_n 3, 1) by decide +kernel) (show decode code 178 = .ok (.iconst 4, 1) by decide +kernel) (show decode code 179 = .ok (.iadd, 1) by decide +kernel) (show decode code 180 = .ok (.iaload, 1) by decide +kernel) ?_
  refine xa_callVi (Lf := lcl b i) (stf := fun _ => []) (As := [.int (zi (xs (i + 1).toNat).toInt), .int (zi (xs (i + 2).toNat).toInt), .int (zi (xs (i + 3).toNat).toInt), .int (zi (xs (i + 4).toNat).toInt)]) C S (fun _ h => h) fy_CX_function (0, 0) (zids_fix zfix_0) rfl rfl wd_325 (show decode code 181 = .ok (.invokevirtual 23, 3) by decide +kernel) ⟨rfl, rfl, Nat.le_of_ble_eq_true rfl, Nat.le_of_ble_eq_true rfl⟩ ⟨by show k + 57 ≤ 600000; omega, by show n + 3404 ≤ 7302250; omega⟩ rfl rfl (Nat.le_of_ble_eq_true rfl) (fun ad' hg => ⟨?_, rfl⟩) h (fun h sz => c_CX_function (zln E) D g ad (xs (i + 1).toNat).toInt (xs (i + 2).toNat).toInt (xs (i + 3).toNat).toInt (xs (i + 4).toNat).toInt _ σ h sz) (fun r τ ad2 hX2 hq => ?_)
  · unfold lcl
    rw [zo_ag hg zfix_0 (by decide), zo_ag hg zfix_3 (by decide)]
  refine z_aload_n C (show decode code 184 = .ok (.aload_n 2, 1) by decide +kernel) 2 rfl ?_
  refine z_sub (L' := lcl b i ad2) [0, 1, 2, 3] rfl ?_
  refine l_arg X h0 h1 1 (by decide) (by decide) (show decode code 185 = .ok (.aload_n 0, 1) by decide +kernel) (show decode code 186 = .ok (.iload_n 3, 1) by decide +kernel) (show decode code 187 = .ok (.iconst 1, 1) by decide +kernel) (show decode code 188 = .ok (.iadd, 1) by decide +kernel) (show decode code 189 = .ok (.iaload, 1) by decide +kernel) ?_
  refine l_arg X h0 h1 2 (by decide) (by decide) (show decode code 190 = .ok (.aload_n 0, 1) by decide +kernel) (show decode code 191 = .ok (.iload_n 3, 1) by decide +kernel) (show decode code 192 = .ok (.iconst 2, 1) by decide +kernel) (show decode code 193 = .ok (.iadd, 1) by decide +kernel) (show decode code 194 = .ok (.iaload, 1) by decide +kernel) ?_
  refine l_arg X h0 h1 3 (by decide) (by decide) (show decode code 195 = .ok (.aload_n 0, 1) by decide +kernel) (show decode code 196 = .ok (.iload_n 3, 1) by decide +kernel) (show decode code 197 = .ok (.iconst 3, 1) by decide +kernel) (show decode code 198 = .ok (.iadd, 1) by decide +kernel) (show decode code 199 = .ok (.iaload, 1) by decide +kernel) ?_
  refine l_arg X h0 h1 4 (by decide) (by decide) (show decode code 200 = .ok (.aload_n 0, 1) by decide +kernel) (show decode code 201 = .ok (.iload_n 3, 1) by decide +kernel) (show decode code 202 = .ok (.iconst 4, 1) by decide +kernel) (show decode code 203 = .ok (.iadd, 1) by decide +kernel) (show decode code 204 = .ok (.iaload, 1) by decide +kernel) ?_
  refine l_calli (L := lcl b i ad2) (st := [.int (zi r)]) (As := [.int (zi (xs (i + 1).toNat).toInt), .int (zi (xs (i + 2).toNat).toInt), .int (zi (xs (i + 3).toNat).toInt), .int (zi (xs (i + 4).toNat).toInt)]) C fy_MM_function rfl wd_879 (show decode code 205 = .ok (.invokevirtual 27, 3) by decide +kernel) ⟨rfl, rfl, Nat.le_of_ble_eq_true rfl, Nat.le_of_ble_eq_true rfl⟩ ⟨by show k + 57 ≤ 600000; omega, by show n + 3404 ≤ 7302250; omega⟩ rfl rfl (Nat.le_of_ble_eq_true rfl) hq (fun h => c_MM_function (zln E) D g ad2 (xs (i + 1).toNat).toInt (xs (i + 2).toNat).toInt (xs (i + 3).toNat).toInt (xs (i + 4).toNat).toInt _ τ h) (fun r2 υ hq2 => ?_)
  obtain ⟨rfl, hq3⟩ := hq2
  refine l_same (tgt := 570) C (show decode code 208 = .ok (.if_icmp .eq 362, 3) by decide +kernel) rfl ?_
  exact (kk ad2 υ hq3).widen (by dsimp only; omega) (by dsimp only; omega)
set_option maxRecDepth 20000 in
theorem lw_c3 (X : lwX E D g b Ln xs) (h0 : 0 ≤ i) (h1 : i + 5 ≤ Ln) (hkn : k + 300 ≤ 600000 ∧ n + 4000 ≤ 7302250) (h : wp_op 3 (xs (i + 1).toNat).toInt (xs (i + 2).toNat).toInt (xs (i + 3).toNat).toInt (xs (i + 4).toNat).toInt Q σ) (kk : ∀ ad τ, Q τ → zW E (zOK D (fun q => (zst E).heap.size ≤ q) (zst E) g ad) (k + 300) (n + 4000) 570 (lcl b i ad) [] τ) : zW E (zOK D (fun q => (zst E).heap.size ≤ q) (zst E) g ad) k n 213 (lcl b i ad) [] σ := by
  obtain ⟨C, S, hX, hbl, hLn⟩ := id X
  have h : wp_CX_drive (fun r τ => wp_MM_drive (fun r' υ => r' = r ∧ Q υ) (xs (i + 1).toNat).toInt (xs (i + 2).toNat).toInt τ) (xs (i + 1).toNat).toInt (xs (i + 2).toNat).toInt σ := h
  refine z_aload_n C (show decode code 213 = .ok (.aload_n 1, 1) by decide +kernel) 1 rfl ?_
  refine l_arg X h0 h1 1 (by decide) (by decide) (show decode code 214 = .ok (.aload_n 0, 1) by decide +kernel) (show decode code 215 = .ok (.iload_n 3, 1) by decide +kernel) (show decode code 216 = .ok (.iconst 1, 1) by decide +kernel) (show decode code 217 = .ok (.iadd, 1) by decide +kernel) (show decode code 218 = .ok (.iaload, 1) by decide +kernel) ?_
  refine l_arg X h0 h1 2 (by decide) (by decide) (show decode code 219 = .ok (.aload_n 0, 1) by decide +kernel) (show decode code 220 = .ok (.iload_n 3, 1) by decide +kernel) (show decode code 221 = .ok (.iconst 2, 1) by decide +kernel) (show decode code 222 = .ok (.iadd, 1) by decide +kernel) (show decode code 223 = .ok (.iaload, 1) by decide +kernel) ?_
  refine x_callVi (L := lcl b i ad) (st := []) (As := [.int (zi (xs (i + 1).toNat).toInt), .int (zi (xs (i + 2).toNat).toInt)]) C S fy_CX_drive (0, 0) (zids_fix zfix_0) rfl rfl wd_360 (show decode code 224 = .ok (.invokevirtual 28, 3) by decide +kernel) ⟨rfl, rfl, Nat.le_of_ble_eq_true rfl, Nat.le_of_ble_eq_true rfl⟩ rfl rfl (Nat.le_of_ble_eq_true rfl) h (fun h => c_CX_drive (zln E) D g ad (xs (i + 1).toNat).toInt (xs (i + 2).toNat).toInt _ σ h) (fun r τ hq => ?_) ⟨by show k ≤ 600000; omega, by show n ≤ 7302250; omega⟩
  refine z_aload_n C (show decode code 227 = .ok (.aload_n 2, 1) by decide +kernel) 2 rfl ?_
  refine z_sub (L' := lcl b i ad) [0, 1, 2, 3] rfl ?_
  refine l_arg X h0 h1 1 (by decide) (by decide) (show decode code 228 = .ok (.aload_n 0, 1) by decide +kernel) (show decode code 229 = .ok (.iload_n 3, 1) by decide +kernel) (show decode code 230 = .ok (.iconst 1, 1) by decide +kernel) (show decode code 231 = .ok (.iadd, 1) by decide +kernel) (show decode code 232 = .ok (.iaload, 1) by decide +kernel) ?_
  refine l_arg X h0 h1 2 (by decide) (by decide) (show decode code 233 = .ok (.aload_n 0, 1) by decide +kernel) (show decode code 234 = .ok (.iload_n 3, 1) by decide +kernel) (show decode code 235 = .ok (.iconst 2, 1) by decide +kernel) (show decode code 236 = .ok (.iadd, 1) by decide +kernel) (show decode code 237 = .ok (.iaload, 1) by decide +kernel) ?_
  refine l_calli (L := lcl b i ad) (st := [.int (zi r)]) (As := [.int (zi (xs (i + 1).toNat).toInt), .int (zi (xs (i + 2).toNat).toInt)]) C fy_MM_drive rfl wd_918 (show decode code 238 = .ok (.invokevirtual 32, 3) by decide +kernel) ⟨rfl, rfl, Nat.le_of_ble_eq_true rfl, Nat.le_of_ble_eq_true rfl⟩ ⟨by show k ≤ 600000; omega, by show n ≤ 7302250; omega⟩ rfl rfl (Nat.le_of_ble_eq_true rfl) hq (fun h => c_MM_drive (zln E) D g ad (xs (i + 1).toNat).toInt (xs (i + 2).toNat).toInt _ τ h) (fun r2 υ hq2 => ?_)
  obtain ⟨rfl, hq3⟩ := hq2
  refine l_same (tgt := 570) C (show decode code 241 = .ok (.if_icmp .eq 329, 3) by decide +kernel) rfl ?_
  exact (kk ad υ hq3).widen (by omega) (by omega)
set_option maxRecDepth 20000 in
theorem lw_c4 (X : lwX E D g b Ln xs) (h0 : 0 ≤ i) (h1 : i + 5 ≤ Ln) (hkn : k + 300 ≤ 600000 ∧ n + 4000 ≤ 7302250) (h : wp_op 4 (xs (i + 1).toNat).toInt (xs (i + 2).toNat).toInt (xs (i + 3).toNat).toInt (xs (i + 4).toNat).toInt Q σ) (kk : ∀ ad τ, Q τ → zW E (zOK D (fun q => (zst E).heap.size ≤ q) (zst E) g ad) (k + 300) (n + 4000) 570 (lcl b i ad) [] τ) : zW E (zOK D (fun q => (zst E).heap.size ≤ q) (zst E) g ad) k n 246 (lcl b i ad) [] σ := by
  obtain ⟨C, S, hX, hbl, hLn⟩ := id X
  have h : wp_CX_output (fun r τ => wp_MM_output (fun r' υ => r' = r ∧ Q υ) (xs (i + 1).toNat).toInt τ) (xs (i + 1).toNat).toInt σ := h
  refine z_aload_n C (show decode code 246 = .ok (.aload_n 1, 1) by decide +kernel) 1 rfl ?_
  refine l_arg X h0 h1 1 (by decide) (by decide) (show decode code 247 = .ok (.aload_n 0, 1) by decide +kernel) (show decode code 248 = .ok (.iload_n 3, 1) by decide +kernel) (show decode code 249 = .ok (.iconst 1, 1) by decide +kernel) (show decode code 250 = .ok (.iadd, 1) by decide +kernel) (show decode code 251 = .ok (.iaload, 1) by decide +kernel) ?_
  refine xa_callVi (Lf := lcl b i) (stf := fun _ => []) (As := [.int (zi (xs (i + 1).toNat).toInt)]) C S (fun _ h => h) fy_CX_output (0, 0) (zids_fix zfix_0) rfl rfl wd_364 (show decode code 252 = .ok (.invokevirtual 33, 3) by decide +kernel) ⟨rfl, rfl, Nat.le_of_ble_eq_true rfl, Nat.le_of_ble_eq_true rfl⟩ ⟨by show k + 1 ≤ 600000; omega, by show n + 100 ≤ 7302250; omega⟩ rfl rfl (Nat.le_of_ble_eq_true rfl) (fun ad' hg => ⟨?_, rfl⟩) h (fun h sz => c_CX_output (zln E) D g ad (xs (i + 1).toNat).toInt _ σ h sz) (fun r τ ad2 hX2 hq => ?_)
  · unfold lcl
    rw [zo_ag hg zfix_0 (by decide), zo_ag hg zfix_3 (by decide)]
  refine z_aload_n C (show decode code 255 = .ok (.aload_n 2, 1) by decide +kernel) 2 rfl ?_
  refine z_sub (L' := lcl b i ad2) [0, 1, 2, 3] rfl ?_
  refine l_arg X h0 h1 1 (by decide) (by decide) (show decode code 256 = .ok (.aload_n 0, 1) by decide +kernel) (show decode code 257 = .ok (.iload_n 3, 1) by decide +kernel) (show decode code 258 = .ok (.iconst 1, 1) by decide +kernel) (show decode code 259 = .ok (.iadd, 1) by decide +kernel) (show decode code 260 = .ok (.iaload, 1) by decide +kernel) ?_
  refine l_calli (L := lcl b i ad2) (st := [.int (zi r)]) (As := [.int (zi (xs (i + 1).toNat).toInt)]) C fy_MM_output rfl wd_922 (show decode code 261 = .ok (.invokevirtual 36, 3) by decide +kernel) ⟨rfl, rfl, Nat.le_of_ble_eq_true rfl, Nat.le_of_ble_eq_true rfl⟩ ⟨by show k + 1 ≤ 600000; omega, by show n + 100 ≤ 7302250; omega⟩ rfl rfl (Nat.le_of_ble_eq_true rfl) hq (fun h => c_MM_output (zln E) D g ad2 (xs (i + 1).toNat).toInt _ τ h) (fun r2 υ hq2 => ?_)
  obtain ⟨rfl, hq3⟩ := hq2
  refine l_same (tgt := 570) C (show decode code 264 = .ok (.if_icmp .eq 306, 3) by decide +kernel) rfl ?_
  exact (kk ad2 υ hq3).widen (by dsimp only; omega) (by dsimp only; omega)
set_option maxRecDepth 20000 in
theorem lw_c5 (X : lwX E D g b Ln xs) (h0 : 0 ≤ i) (h1 : i + 5 ≤ Ln) (hkn : k + 300 ≤ 600000 ∧ n + 4000 ≤ 7302250) (h : wp_op 5 (xs (i + 1).toNat).toInt (xs (i + 2).toNat).toInt (xs (i + 3).toNat).toInt (xs (i + 4).toNat).toInt Q σ) (kk : ∀ ad τ, Q τ → zW E (zOK D (fun q => (zst E).heap.size ≤ q) (zst E) g ad) (k + 300) (n + 4000) 570 (lcl b i ad) [] τ) : zW E (zOK D (fun q => (zst E).heap.size ≤ q) (zst E) g ad) k n 269 (lcl b i ad) [] σ := by
  obtain ⟨C, S, hX, hbl, hLn⟩ := id X
  have h : wp_CX_cell (fun r τ => wp_MM_cell (fun r' υ => r' = r ∧ Q υ) (xs (i + 1).toNat).toInt (xs (i + 2).toNat).toInt (xs (i + 3).toNat).toInt τ) (xs (i + 1).toNat).toInt (xs (i + 2).toNat).toInt (xs (i + 3).toNat).toInt σ := h
  refine z_aload_n C (show decode code 269 = .ok (.aload_n 1, 1) by decide +kernel) 1 rfl ?_
  refine l_arg X h0 h1 1 (by decide) (by decide) (show decode code 270 = .ok (.aload_n 0, 1) by decide +kernel) (show decode code 271 = .ok (.iload_n 3, 1) by decide +kernel) (show decode code 272 = .ok (.iconst 1, 1) by decide +kernel) (show decode code 273 = .ok (.iadd, 1) by decide +kernel) (show decode code 274 = .ok (.iaload, 1) by decide +kernel) ?_
  refine l_arg X h0 h1 2 (by decide) (by decide) (show decode code 275 = .ok (.aload_n 0, 1) by decide +kernel) (show decode code 276 = .ok (.iload_n 3, 1) by decide +kernel) (show decode code 277 = .ok (.iconst 2, 1) by decide +kernel) (show decode code 278 = .ok (.iadd, 1) by decide +kernel) (show decode code 279 = .ok (.iaload, 1) by decide +kernel) ?_
  refine l_arg X h0 h1 3 (by decide) (by decide) (show decode code 280 = .ok (.aload_n 0, 1) by decide +kernel) (show decode code 281 = .ok (.iload_n 3, 1) by decide +kernel) (show decode code 282 = .ok (.iconst 3, 1) by decide +kernel) (show decode code 283 = .ok (.iadd, 1) by decide +kernel) (show decode code 284 = .ok (.iaload, 1) by decide +kernel) ?_
  refine xa_callVi (Lf := lcl b i) (stf := fun _ => []) (As := [.int (zi (xs (i + 1).toNat).toInt), .int (zi (xs (i + 2).toNat).toInt), .int (zi (xs (i + 3).toNat).toInt)]) C S (fun _ h => h) fy_CX_cell (0, 0) (zids_fix zfix_0) rfl rfl wd_368 (show decode code 285 = .ok (.invokevirtual 37, 3) by decide +kernel) ⟨rfl, rfl, Nat.le_of_ble_eq_true rfl, Nat.le_of_ble_eq_true rfl⟩ ⟨by show k + 257 ≤ 600000; omega, by show n + 616 ≤ 7302250; omega⟩ rfl rfl (Nat.le_of_ble_eq_true rfl) (fun ad' hg => ⟨?_, rfl⟩) h (fun h sz => c_CX_cell (zln E) D g ad (xs (i + 1).toNat).toInt (xs (i + 2).toNat).toInt (xs (i + 3).toNat).toInt _ σ h sz) (fun r τ ad2 hX2 hq => ?_)
  · unfold lcl
    rw [zo_ag hg zfix_0 (by decide), zo_ag hg zfix_3 (by decide)]
  refine z_aload_n C (show decode code 288 = .ok (.aload_n 2, 1) by decide +kernel) 2 rfl ?_
  refine z_sub (L' := lcl b i ad2) [0, 1, 2, 3] rfl ?_
  refine l_arg X h0 h1 1 (by decide) (by decide) (show decode code 289 = .ok (.aload_n 0, 1) by decide +kernel) (show decode code 290 = .ok (.iload_n 3, 1) by decide +kernel) (show decode code 291 = .ok (.iconst 1, 1) by decide +kernel) (show decode code 292 = .ok (.iadd, 1) by decide +kernel) (show decode code 293 = .ok (.iaload, 1) by decide +kernel) ?_
  refine l_arg X h0 h1 2 (by decide) (by decide) (show decode code 294 = .ok (.aload_n 0, 1) by decide +kernel) (show decode code 295 = .ok (.iload_n 3, 1) by decide +kernel) (show decode code 296 = .ok (.iconst 2, 1) by decide +kernel) (show decode code 297 = .ok (.iadd, 1) by decide +kernel) (show decode code 298 = .ok (.iaload, 1) by decide +kernel) ?_
  refine l_arg X h0 h1 3 (by decide) (by decide) (show decode code 299 = .ok (.aload_n 0, 1) by decide +kernel) (show decode code 300 = .ok (.iload_n 3, 1) by decide +kernel) (show decode code 301 = .ok (.iconst 3, 1) by decide +kernel) (show decode code 302 = .ok (.iadd, 1) by decide +kernel) (show decode code 303 = .ok (.iaload, 1) by decide +kernel) ?_
  refine l_calli (L := lcl b i ad2) (st := [.int (zi r)]) (As := [.int (zi (xs (i + 1).toNat).toInt), .int (zi (xs (i + 2).toNat).toInt), .int (zi (xs (i + 3).toNat).toInt)]) C fy_MM_cell rfl wd_926 (show decode code 304 = .ok (.invokevirtual 41, 3) by decide +kernel) ⟨rfl, rfl, Nat.le_of_ble_eq_true rfl, Nat.le_of_ble_eq_true rfl⟩ ⟨by show k + 257 ≤ 600000; omega, by show n + 616 ≤ 7302250; omega⟩ rfl rfl (Nat.le_of_ble_eq_true rfl) hq (fun h => c_MM_cell (zln E) D g ad2 (xs (i + 1).toNat).toInt (xs (i + 2).toNat).toInt (xs (i + 3).toNat).toInt _ τ h) (fun r2 υ hq2 => ?_)
  obtain ⟨rfl, hq3⟩ := hq2
  refine l_same (tgt := 570) C (show decode code 307 = .ok (.if_icmp .eq 263, 3) by decide +kernel) rfl ?_
  exact (kk ad2 υ hq3).widen (by dsimp only; omega) (by dsimp only; omega)
set_option maxRecDepth 20000 in
theorem lw_c6 (X : lwX E D g b Ln xs) (h0 : 0 ≤ i) (h1 : i + 5 ≤ Ln) (hkn : k + 300 ≤ 600000 ∧ n + 4000 ≤ 7302250) (h : wp_op 6 (xs (i + 1).toNat).toInt (xs (i + 2).toNat).toInt (xs (i + 3).toNat).toInt (xs (i + 4).toNat).toInt Q σ) (kk : ∀ ad τ, Q τ → zW E (zOK D (fun q => (zst E).heap.size ≤ q) (zst E) g ad) (k + 300) (n + 4000) 570 (lcl b i ad) [] τ) : zW E (zOK D (fun q => (zst E).heap.size ≤ q) (zst E) g ad) k n 312 (lcl b i ad) [] σ := by
  obtain ⟨C, S, hX, hbl, hLn⟩ := id X
  have h : wp_CX_nodes (fun r τ => wp_MM_nodes (fun r' υ => r' = r ∧ Q υ) τ) σ := h
  refine z_aload_n C (show decode code 312 = .ok (.aload_n 1, 1) by decide +kernel) 1 rfl ?_
  refine x_callVi (L := lcl b i ad) (st := []) (As := []) C S fy_CX_nodes (0, 0) (zids_fix zfix_0) rfl rfl wd_453 (show decode code 313 = .ok (.invokevirtual 42, 3) by decide +kernel) ⟨rfl, rfl, Nat.le_of_ble_eq_true rfl, Nat.le_of_ble_eq_true rfl⟩ rfl rfl (Nat.le_of_ble_eq_true rfl) h (fun h => c_CX_nodes (zln E) D g ad  _ σ h) (fun r τ hq => ?_) ⟨by show k ≤ 600000; omega, by show n ≤ 7302250; omega⟩
  refine z_aload_n C (show decode code 316 = .ok (.aload_n 2, 1) by decide +kernel) 2 rfl ?_
  refine l_calli (L := lcl b i ad) (st := [.int (zi r)]) (As := []) C fy_MM_nodes rfl wd_933 (show decode code 317 = .ok (.invokevirtual 45, 3) by decide +kernel) ⟨rfl, rfl, Nat.le_of_ble_eq_true rfl, Nat.le_of_ble_eq_true rfl⟩ ⟨by show k ≤ 600000; omega, by show n ≤ 7302250; omega⟩ rfl rfl (Nat.le_of_ble_eq_true rfl) hq (fun h => c_MM_nodes (zln E) D g ad  _ τ h) (fun r2 υ hq2 => ?_)
  obtain ⟨rfl, hq3⟩ := hq2
  refine l_same (tgt := 570) C (show decode code 320 = .ok (.if_icmp .eq 250, 3) by decide +kernel) rfl ?_
  exact (kk ad υ hq3).widen (by omega) (by omega)
set_option maxRecDepth 20000 in
theorem lw_c7 (X : lwX E D g b Ln xs) (h0 : 0 ≤ i) (h1 : i + 5 ≤ Ln) (hkn : k + 300 ≤ 600000 ∧ n + 4000 ≤ 7302250) (h : wp_op 7 (xs (i + 1).toNat).toInt (xs (i + 2).toNat).toInt (xs (i + 3).toNat).toInt (xs (i + 4).toNat).toInt Q σ) (kk : ∀ ad τ, Q τ → zW E (zOK D (fun q => (zst E).heap.size ≤ q) (zst E) g ad) (k + 300) (n + 4000) 570 (lcl b i ad) [] τ) : zW E (zOK D (fun q => (zst E).heap.size ≤ q) (zst E) g ad) k n 325 (lcl b i ad) [] σ := by
  obtain ⟨C, S, hX, hbl, hLn⟩ := id X
  have h : wp_CX_nodeOf (fun r τ => wp_MM_nodeOf (fun r' υ => r' = r ∧ Q υ) (xs (i + 1).toNat).toInt τ) (xs (i + 1).toNat).toInt σ := h
  refine z_aload_n C (show decode code 325 = .ok (.aload_n 1, 1) by decide +kernel) 1 rfl ?_
  refine l_arg X h0 h1 1 (by decide) (by decide) (show decode code 326 = .ok (.aload_n 0, 1) by decide +kernel) (show decode code 327 = .ok (.iload_n 3, 1) by decide +kernel) (show decode code 328 = .ok (.iconst 1, 1) by decide +kernel) (show decode code 329 = .ok (.iadd, 1) by decide +kernel) (show decode code 330 = .ok (.iaload, 1) by decide +kernel) ?_
  refine x_callVi (L := lcl b i ad) (st := []) (As := [.int (zi (xs (i + 1).toNat).toInt)]) C S fy_CX_nodeOf (0, 0) (zids_fix zfix_0) rfl rfl wd_457 (show decode code 331 = .ok (.invokevirtual 46, 3) by decide +kernel) ⟨rfl, rfl, Nat.le_of_ble_eq_true rfl, Nat.le_of_ble_eq_true rfl⟩ rfl rfl (Nat.le_of_ble_eq_true rfl) h (fun h => c_CX_nodeOf (zln E) D g ad (xs (i + 1).toNat).toInt _ σ h) (fun r τ hq => ?_) ⟨by show k ≤ 600000; omega, by show n ≤ 7302250; omega⟩
  refine z_aload_n C (show decode code 334 = .ok (.aload_n 2, 1) by decide +kernel) 2 rfl ?_
  refine z_sub (L' := lcl b i ad) [0, 1, 2, 3] rfl ?_
  refine l_arg X h0 h1 1 (by decide) (by decide) (show decode code 335 = .ok (.aload_n 0, 1) by decide +kernel) (show decode code 336 = .ok (.iload_n 3, 1) by decide +kernel) (show decode code 337 = .ok (.iconst 1, 1) by decide +kernel) (show decode code 338 = .ok (.iadd, 1) by decide +kernel) (show decode code 339 = .ok (.iaload, 1) by decide +kernel) ?_
  refine l_calli (L := lcl b i ad) (st := [.int (zi r)]) (As := [.int (zi (xs (i + 1).toNat).toInt)]) C fy_MM_nodeOf rfl wd_937 (show decode code 340 = .ok (.invokevirtual 49, 3) by decide +kernel) ⟨rfl, rfl, Nat.le_of_ble_eq_true rfl, Nat.le_of_ble_eq_true rfl⟩ ⟨by show k ≤ 600000; omega, by show n ≤ 7302250; omega⟩ rfl rfl (Nat.le_of_ble_eq_true rfl) hq (fun h => c_MM_nodeOf (zln E) D g ad (xs (i + 1).toNat).toInt _ τ h) (fun r2 υ hq2 => ?_)
  obtain ⟨rfl, hq3⟩ := hq2
  refine l_same (tgt := 570) C (show decode code 343 = .ok (.if_icmp .eq 227, 3) by decide +kernel) rfl ?_
  exact (kk ad υ hq3).widen (by omega) (by omega)
set_option maxRecDepth 20000 in
theorem lw_c8 (X : lwX E D g b Ln xs) (h0 : 0 ≤ i) (h1 : i + 5 ≤ Ln) (hkn : k + 300 ≤ 600000 ∧ n + 4000 ≤ 7302250) (h : wp_op 8 (xs (i + 1).toNat).toInt (xs (i + 2).toNat).toInt (xs (i + 3).toNat).toInt (xs (i + 4).toNat).toInt Q σ) (kk : ∀ ad τ, Q τ → zW E (zOK D (fun q => (zst E).heap.size ≤ q) (zst E) g ad) (k + 300) (n + 4000) 570 (lcl b i ad) [] τ) : zW E (zOK D (fun q => (zst E).heap.size ≤ q) (zst E) g ad) k n 348 (lcl b i ad) [] σ := by
  obtain ⟨C, S, hX, hbl, hLn⟩ := id X
  have h : wp_CX_part (fun r τ => wp_MM_part (fun r' υ => r' = r ∧ Q υ) (xs (i + 1).toNat).toInt (xs (i + 2).toNat).toInt τ) (xs (i + 1).toNat).toInt (xs (i + 2).toNat).toInt σ := h
  refine z_aload_n C (show decode code 348 = .ok (.aload_n 1, 1) by decide +kernel) 1 rfl ?_
  refine l_arg X h0 h1 1 (by decide) (by decide) (show decode code 349 = .ok (.aload_n 0, 1) by decide +kernel) (show decode code 350 = .ok (.iload_n 3, 1) by decide +kernel) (show decode code 351 = .ok (.iconst 1, 1) by decide +kernel) (show decode code 352 = .ok (.iadd, 1) by decide +kernel) (show decode code 353 = .ok (.iaload, 1) by decide +kernel) ?_
  refine l_arg X h0 h1 2 (by decide) (by decide) (show decode code 354 = .ok (.aload_n 0, 1) by decide +kernel) (show decode code 355 = .ok (.iload_n 3, 1) by decide +kernel) (show decode code 356 = .ok (.iconst 2, 1) by decide +kernel) (show decode code 357 = .ok (.iadd, 1) by decide +kernel) (show decode code 358 = .ok (.iaload, 1) by decide +kernel) ?_
  refine x_callVi (L := lcl b i ad) (st := []) (As := [.int (zi (xs (i + 1).toNat).toInt), .int (zi (xs (i + 2).toNat).toInt)]) C S fy_CX_part (0, 0) (zids_fix zfix_0) rfl rfl wd_461 (show decode code 359 = .ok (.invokevirtual 50, 3) by decide +kernel) ⟨rfl, rfl, Nat.le_of_ble_eq_true rfl, Nat.le_of_ble_eq_true rfl⟩ rfl rfl (Nat.le_of_ble_eq_true rfl) h (fun h => c_CX_part (zln E) D g ad (xs (i + 1).toNat).toInt (xs (i + 2).toNat).toInt _ σ h) (fun r τ hq => ?_) ⟨by show k ≤ 600000; omega, by show n ≤ 7302250; omega⟩
  refine z_aload_n C (show decode code 362 = .ok (.aload_n 2, 1) by decide +kernel) 2 rfl ?_
  refine z_sub (L' := lcl b i ad) [0, 1, 2, 3] rfl ?_
  refine l_arg X h0 h1 1 (by decide) (by decide) (show decode code 363 = .ok (.aload_n 0, 1) by decide +kernel) (show decode code 364 = .ok (.iload_n 3, 1) by decide +kernel) (show decode code 365 = .ok (.iconst 1, 1) by decide +kernel) (show decode code 366 = .ok (.iadd, 1) by decide +kernel) (show decode code 367 = .ok (.iaload, 1) by decide +kernel) ?_
  refine l_arg X h0 h1 2 (by decide) (by decide) (show decode code 368 = .ok (.aload_n 0, 1) by decide +kernel) (show decode code 369 = .ok (.iload_n 3, 1) by decide +kernel) (show decode code 370 = .ok (.iconst 2, 1) by decide +kernel) (show decode code 371 = .ok (.iadd, 1) by decide +kernel) (show decode code 372 = .ok (.iaload, 1) by decide +kernel) ?_
  refine l_calli (L := lcl b i ad) (st := [.int (zi r)]) (As := [.int (zi (xs (i + 1).toNat).toInt), .int (zi (xs (i + 2).toNat).toInt)]) C fy_MM_part rfl wd_941 (show decode code 373 = .ok (.invokevirtual 54, 3) by decide +kernel) ⟨rfl, rfl, Nat.le_of_ble_eq_true rfl, Nat.le_of_ble_eq_true rfl⟩ ⟨by show k ≤ 600000; omega, by show n ≤ 7302250; omega⟩ rfl rfl (Nat.le_of_ble_eq_true rfl) hq (fun h => c_MM_part (zln E) D g ad (xs (i + 1).toNat).toInt (xs (i + 2).toNat).toInt _ τ h) (fun r2 υ hq2 => ?_)
  obtain ⟨rfl, hq3⟩ := hq2
  refine l_same (tgt := 570) C (show decode code 376 = .ok (.if_icmp .eq 194, 3) by decide +kernel) rfl ?_
  exact (kk ad υ hq3).widen (by omega) (by omega)
set_option maxRecDepth 20000 in
theorem lw_c9 (X : lwX E D g b Ln xs) (h0 : 0 ≤ i) (h1 : i + 5 ≤ Ln) (hkn : k + 300 ≤ 600000 ∧ n + 4000 ≤ 7302250) (h : wp_op 9 (xs (i + 1).toNat).toInt (xs (i + 2).toNat).toInt (xs (i + 3).toNat).toInt (xs (i + 4).toNat).toInt Q σ) (kk : ∀ ad τ, Q τ → zW E (zOK D (fun q => (zst E).heap.size ≤ q) (zst E) g ad) (k + 300) (n + 4000) 570 (lcl b i ad) [] τ) : zW E (zOK D (fun q => (zst E).heap.size ≤ q) (zst E) g ad) k n 381 (lcl b i ad) [] σ := by
  obtain ⟨C, S, hX, hbl, hLn⟩ := id X
  have h : wp_CX_map (fun r τ => wp_MM_map (fun r' υ => r' = r ∧ Q υ) τ) σ := h
  refine z_aload_n C (show decode code 381 = .ok (.aload_n 1, 1) by decide +kernel) 1 rfl ?_
  refine x_callVi (L := lcl b i ad) (st := []) (As := []) C S fy_CX_map (0, 0) (zids_fix zfix_0) rfl rfl wd_465 (show decode code 382 = .ok (.invokevirtual 55, 3) by decide +kernel) ⟨rfl, rfl, Nat.le_of_ble_eq_true rfl, Nat.le_of_ble_eq_true rfl⟩ rfl rfl (Nat.le_of_ble_eq_true rfl) h (fun h => c_CX_map (zln E) D g ad  _ σ h) (fun r τ hq => ?_) ⟨by show k ≤ 600000; omega, by show n ≤ 7302250; omega⟩
  refine z_aload_n C (show decode code 385 = .ok (.aload_n 2, 1) by decide +kernel) 2 rfl ?_
  refine l_calli (L := lcl b i ad) (st := [.int (zi r)]) (As := []) C fy_MM_map rfl wd_945 (show decode code 386 = .ok (.invokevirtual 58, 3) by decide +kernel) ⟨rfl, rfl, Nat.le_of_ble_eq_true rfl, Nat.le_of_ble_eq_true rfl⟩ ⟨by show k ≤ 600000; omega, by show n ≤ 7302250; omega⟩ rfl rfl (Nat.le_of_ble_eq_true rfl) hq (fun h => c_MM_map (zln E) D g ad  _ τ h) (fun r2 υ hq2 => ?_)
  obtain ⟨rfl, hq3⟩ := hq2
  refine l_same (tgt := 570) C (show decode code 389 = .ok (.if_icmp .eq 181, 3) by decide +kernel) rfl ?_
  exact (kk ad υ hq3).widen (by omega) (by omega)
set_option maxRecDepth 20000 in
theorem lw_c10 (X : lwX E D g b Ln xs) (h0 : 0 ≤ i) (h1 : i + 5 ≤ Ln) (hkn : k + 300 ≤ 600000 ∧ n + 4000 ≤ 7302250) (h : wp_op 10 (xs (i + 1).toNat).toInt (xs (i + 2).toNat).toInt (xs (i + 3).toNat).toInt (xs (i + 4).toNat).toInt Q σ) (kk : ∀ ad τ, Q τ → zW E (zOK D (fun q => (zst E).heap.size ≤ q) (zst E) g ad) (k + 300) (n + 4000) 570 (lcl b i ad) [] τ) : zW E (zOK D (fun q => (zst E).heap.size ≤ q) (zst E) g ad) k n 394 (lcl b i ad) [] σ := by
  obtain ⟨C, S, hX, hbl, hLn⟩ := id X
  have h : wp_CX_area (fun r τ => wp_MM_area (fun r' υ => r' = r ∧ Q υ) τ) σ := h
  refine z_aload_n C (show decode code 394 = .ok (.aload_n 1, 1) by decide +kernel) 1 rfl ?_
  refine x_callVi (L := lcl b i ad) (st := []) (As := []) C S fy_CX_area (0, 0) (zids_fix zfix_0) rfl rfl wd_642 (show decode code 395 = .ok (.invokevirtual 59, 3) by decide +kernel) ⟨rfl, rfl, Nat.le_of_ble_eq_true rfl, Nat.le_of_ble_eq_true rfl⟩ rfl rfl (Nat.le_of_ble_eq_true rfl) h (fun h => c_CX_area (zln E) D g ad  _ σ h) (fun r τ hq => ?_) ⟨by show k ≤ 600000; omega, by show n ≤ 7302250; omega⟩
  refine z_aload_n C (show decode code 398 = .ok (.aload_n 2, 1) by decide +kernel) 2 rfl ?_
  refine l_calli (L := lcl b i ad) (st := [.int (zi r)]) (As := []) C fy_MM_area rfl wd_1046 (show decode code 399 = .ok (.invokevirtual 62, 3) by decide +kernel) ⟨rfl, rfl, Nat.le_of_ble_eq_true rfl, Nat.le_of_ble_eq_true rfl⟩ ⟨by show k ≤ 600000; omega, by show n ≤ 7302250; omega⟩ rfl rfl (Nat.le_of_ble_eq_true rfl) hq (fun h => c_MM_area (zln E) D g ad  _ τ h) (fun r2 υ hq2 => ?_)
  obtain ⟨rfl, hq3⟩ := hq2
  refine l_same (tgt := 570) C (show decode code 402 = .ok (.if_icmp .eq 168, 3) by decide +kernel) rfl ?_
  exact (kk ad υ hq3).widen (by omega) (by omega)
set_option maxRecDepth 20000 in
theorem lw_c11 (X : lwX E D g b Ln xs) (h0 : 0 ≤ i) (h1 : i + 5 ≤ Ln) (hkn : k + 300 ≤ 600000 ∧ n + 4000 ≤ 7302250) (h : wp_op 11 (xs (i + 1).toNat).toInt (xs (i + 2).toNat).toInt (xs (i + 3).toNat).toInt (xs (i + 4).toNat).toInt Q σ) (kk : ∀ ad τ, Q τ → zW E (zOK D (fun q => (zst E).heap.size ≤ q) (zst E) g ad) (k + 300) (n + 4000) 570 (lcl b i ad) [] τ) : zW E (zOK D (fun q => (zst E).heap.size ≤ q) (zst E) g ad) k n 407 (lcl b i ad) [] σ := by
  obtain ⟨C, S, hX, hbl, hLn⟩ := id X
  have h : wp_CX_cellAt (fun r τ => wp_MM_cellAt (fun r' υ => r' = r ∧ Q υ) (xs (i + 1).toNat).toInt τ) (xs (i + 1).toNat).toInt σ := h
  refine z_aload_n C (show decode code 407 = .ok (.aload_n 1, 1) by decide +kernel) 1 rfl ?_
  refine l_arg X h0 h1 1 (by decide) (by decide) (show decode code 408 = .ok (.aload_n 0, 1) by decide +kernel) (show decode code 409 = .ok (.iload_n 3, 1) by decide +kernel) (show decode code 410 = .ok (.iconst 1, 1) by decide +kernel) (show decode code 411 = .ok (.iadd, 1) by decide +kernel) (show decode code 412 = .ok (.iaload, 1) by decide +kernel) ?_
  refine x_callVi (L := lcl b i ad) (st := []) (As := [.int (zi (xs (i + 1).toNat).toInt)]) C S fy_CX_cellAt (0, 0) (zids_fix zfix_0) rfl rfl wd_646 (show decode code 413 = .ok (.invokevirtual 63, 3) by decide +kernel) ⟨rfl, rfl, Nat.le_of_ble_eq_true rfl, Nat.le_of_ble_eq_true rfl⟩ rfl rfl (Nat.le_of_ble_eq_true rfl) h (fun h => c_CX_cellAt (zln E) D g ad (xs (i + 1).toNat).toInt _ σ h) (fun r τ hq => ?_) ⟨by show k ≤ 600000; omega, by show n ≤ 7302250; omega⟩
  refine z_aload_n C (show decode code 416 = .ok (.aload_n 2, 1) by decide +kernel) 2 rfl ?_
  refine z_sub (L' := lcl b i ad) [0, 1, 2, 3] rfl ?_
  refine l_arg X h0 h1 1 (by decide) (by decide) (show decode code 417 = .ok (.aload_n 0, 1) by decide +kernel) (show decode code 418 = .ok (.iload_n 3, 1) by decide +kernel) (show decode code 419 = .ok (.iconst 1, 1) by decide +kernel) (show decode code 420 = .ok (.iadd, 1) by decide +kernel) (show decode code 421 = .ok (.iaload, 1) by decide +kernel) ?_
  refine l_calli (L := lcl b i ad) (st := [.int (zi r)]) (As := [.int (zi (xs (i + 1).toNat).toInt)]) C fy_MM_cellAt rfl wd_1050 (show decode code 422 = .ok (.invokevirtual 66, 3) by decide +kernel) ⟨rfl, rfl, Nat.le_of_ble_eq_true rfl, Nat.le_of_ble_eq_true rfl⟩ ⟨by show k ≤ 600000; omega, by show n ≤ 7302250; omega⟩ rfl rfl (Nat.le_of_ble_eq_true rfl) hq (fun h => c_MM_cellAt (zln E) D g ad (xs (i + 1).toNat).toInt _ τ h) (fun r2 υ hq2 => ?_)
  obtain ⟨rfl, hq3⟩ := hq2
  refine l_same (tgt := 570) C (show decode code 425 = .ok (.if_icmp .eq 145, 3) by decide +kernel) rfl ?_
  exact (kk ad υ hq3).widen (by omega) (by omega)
set_option maxRecDepth 20000 in
theorem lw_c12 (X : lwX E D g b Ln xs) (h0 : 0 ≤ i) (h1 : i + 5 ≤ Ln) (hkn : k + 300 ≤ 600000 ∧ n + 4000 ≤ 7302250) (h : wp_op 12 (xs (i + 1).toNat).toInt (xs (i + 2).toNat).toInt (xs (i + 3).toNat).toInt (xs (i + 4).toNat).toInt Q σ) (kk : ∀ ad τ, Q τ → zW E (zOK D (fun q => (zst E).heap.size ≤ q) (zst E) g ad) (k + 300) (n + 4000) 570 (lcl b i ad) [] τ) : zW E (zOK D (fun q => (zst E).heap.size ≤ q) (zst E) g ad) k n 430 (lcl b i ad) [] σ := by
  obtain ⟨C, S, hX, hbl, hLn⟩ := id X
  have h : wp_CX_period (fun r τ => wp_MM_period (fun r' υ => r' = r ∧ Q υ) τ) σ := h
  refine z_aload_n C (show decode code 430 = .ok (.aload_n 1, 1) by decide +kernel) 1 rfl ?_
  refine x_callVi (L := lcl b i ad) (st := []) (As := []) C S fy_CX_period (0, 0) (zids_fix zfix_0) rfl rfl wd_654 (show decode code 431 = .ok (.invokevirtual 67, 3) by decide +kernel) ⟨rfl, rfl, Nat.le_of_ble_eq_true rfl, Nat.le_of_ble_eq_true rfl⟩ rfl rfl (Nat.le_of_ble_eq_true rfl) h (fun h => c_CX_period (zln E) D g ad  _ σ h) (fun r τ hq => ?_) ⟨by show k ≤ 600000; omega, by show n ≤ 7302250; omega⟩
  refine z_aload_n C (show decode code 434 = .ok (.aload_n 2, 1) by decide +kernel) 2 rfl ?_
  refine l_calli (L := lcl b i ad) (st := [.int (zi r)]) (As := []) C fy_MM_period rfl wd_1058 (show decode code 435 = .ok (.invokevirtual 70, 3) by decide +kernel) ⟨rfl, rfl, Nat.le_of_ble_eq_true rfl, Nat.le_of_ble_eq_true rfl⟩ ⟨by show k ≤ 600000; omega, by show n ≤ 7302250; omega⟩ rfl rfl (Nat.le_of_ble_eq_true rfl) hq (fun h => c_MM_period (zln E) D g ad  _ τ h) (fun r2 υ hq2 => ?_)
  obtain ⟨rfl, hq3⟩ := hq2
  refine l_same (tgt := 570) C (show decode code 438 = .ok (.if_icmp .eq 132, 3) by decide +kernel) rfl ?_
  exact (kk ad υ hq3).widen (by omega) (by omega)
set_option maxRecDepth 20000 in
theorem lw_c13 (X : lwX E D g b Ln xs) (h0 : 0 ≤ i) (h1 : i + 5 ≤ Ln) (hkn : k + 300 ≤ 600000 ∧ n + 4000 ≤ 7302250) (h : wp_op 13 (xs (i + 1).toNat).toInt (xs (i + 2).toNat).toInt (xs (i + 3).toNat).toInt (xs (i + 4).toNat).toInt Q σ) (kk : ∀ ad τ, Q τ → zW E (zOK D (fun q => (zst E).heap.size ≤ q) (zst E) g ad) (k + 300) (n + 4000) 570 (lcl b i ad) [] τ) : zW E (zOK D (fun q => (zst E).heap.size ≤ q) (zst E) g ad) k n 443 (lcl b i ad) [] σ := by
  obtain ⟨C, S, hX, hbl, hLn⟩ := id X
  have h : wp_CX_shortest (fun r τ => wp_MM_shortest (fun r' υ => r' = r ∧ Q υ) τ) σ := h
  refine z_aload_n C (show decode code 443 = .ok (.aload_n 1, 1) by decide +kernel) 1 rfl ?_
  refine x_callVi (L := lcl b i ad) (st := []) (As := []) C S fy_CX_shortest (0, 0) (zids_fix zfix_0) rfl rfl wd_658 (show decode code 444 = .ok (.invokevirtual 71, 3) by decide +kernel) ⟨rfl, rfl, Nat.le_of_ble_eq_true rfl, Nat.le_of_ble_eq_true rfl⟩ rfl rfl (Nat.le_of_ble_eq_true rfl) h (fun h => c_CX_shortest (zln E) D g ad  _ σ h) (fun r τ hq => ?_) ⟨by show k ≤ 600000; omega, by show n ≤ 7302250; omega⟩
  refine z_aload_n C (show decode code 447 = .ok (.aload_n 2, 1) by decide +kernel) 2 rfl ?_
  refine l_calli (L := lcl b i ad) (st := [.int (zi r)]) (As := []) C fy_MM_shortest rfl wd_1062 (show decode code 448 = .ok (.invokevirtual 74, 3) by decide +kernel) ⟨rfl, rfl, Nat.le_of_ble_eq_true rfl, Nat.le_of_ble_eq_true rfl⟩ ⟨by show k ≤ 600000; omega, by show n ≤ 7302250; omega⟩ rfl rfl (Nat.le_of_ble_eq_true rfl) hq (fun h => c_MM_shortest (zln E) D g ad  _ τ h) (fun r2 υ hq2 => ?_)
  obtain ⟨rfl, hq3⟩ := hq2
  refine l_same (tgt := 570) C (show decode code 451 = .ok (.if_icmp .eq 119, 3) by decide +kernel) rfl ?_
  exact (kk ad υ hq3).widen (by omega) (by omega)
set_option maxRecDepth 20000 in
theorem lw_c14 (X : lwX E D g b Ln xs) (h0 : 0 ≤ i) (h1 : i + 5 ≤ Ln) (hkn : k + 300 ≤ 600000 ∧ n + 4000 ≤ 7302250) (h : wp_op 14 (xs (i + 1).toNat).toInt (xs (i + 2).toNat).toInt (xs (i + 3).toNat).toInt (xs (i + 4).toNat).toInt Q σ) (kk : ∀ ad τ, Q τ → zW E (zOK D (fun q => (zst E).heap.size ≤ q) (zst E) g ad) (k + 300) (n + 4000) 570 (lcl b i ad) [] τ) : zW E (zOK D (fun q => (zst E).heap.size ≤ q) (zst E) g ad) k n 456 (lcl b i ad) [] σ := by
  obtain ⟨C, S, hX, hbl, hLn⟩ := id X
  have h : wp_CX_moves (fun r τ => wp_MM_moves (fun r' υ => r' = r ∧ Q υ) (xs (i + 1).toNat).toInt τ) (xs (i + 1).toNat).toInt σ := h
  refine z_aload_n C (show decode code 456 = .ok (.aload_n 1, 1) by decide +kernel) 1 rfl ?_
  refine l_arg X h0 h1 1 (by decide) (by decide) (show decode code 457 = .ok (.aload_n 0, 1) by decide +kernel) (show decode code 458 = .ok (.iload_n 3, 1) by decide +kernel) (show decode code 459 = .ok (.iconst 1, 1) by decide +kernel) (show decode code 460 = .ok (.iadd, 1) by decide +kernel) (show decode code 461 = .ok (.iaload, 1) by decide +kernel) ?_
  refine x_callVi (L := lcl b i ad) (st := []) (As := [.int (zi (xs (i + 1).toNat).toInt)]) C S fy_CX_moves (0, 0) (zids_fix zfix_0) rfl rfl wd_662 (show decode code 462 = .ok (.invokevirtual 75, 3) by decide +kernel) ⟨rfl, rfl, Nat.le_of_ble_eq_true rfl, Nat.le_of_ble_eq_true rfl⟩ rfl rfl (Nat.le_of_ble_eq_true rfl) h (fun h => c_CX_moves (zln E) D g ad (xs (i + 1).toNat).toInt _ σ h) (fun r τ hq => ?_) ⟨by show k ≤ 600000; omega, by show n ≤ 7302250; omega⟩
  refine z_aload_n C (show decode code 465 = .ok (.aload_n 2, 1) by decide +kernel) 2 rfl ?_
  refine z_sub (L' := lcl b i ad) [0, 1, 2, 3] rfl ?_
  refine l_arg X h0 h1 1 (by decide) (by decide) (show decode code 466 = .ok (.aload_n 0, 1) by decide +kernel) (show decode code 467 = .ok (.iload_n 3, 1) by decide +kernel) (show decode code 468 = .ok (.iconst 1, 1) by decide +kernel) (show decode code 469 = .ok (.iadd, 1) by decide +kernel) (show decode code 470 = .ok (.iaload, 1) by decide +kernel) ?_
  refine l_calli (L := lcl b i ad) (st := [.int (zi r)]) (As := [.int (zi (xs (i + 1).toNat).toInt)]) C fy_MM_moves rfl wd_1066 (show decode code 471 = .ok (.invokevirtual 78, 3) by decide +kernel) ⟨rfl, rfl, Nat.le_of_ble_eq_true rfl, Nat.le_of_ble_eq_true rfl⟩ ⟨by show k ≤ 600000; omega, by show n ≤ 7302250; omega⟩ rfl rfl (Nat.le_of_ble_eq_true rfl) hq (fun h => c_MM_moves (zln E) D g ad (xs (i + 1).toNat).toInt _ τ h) (fun r2 υ hq2 => ?_)
  obtain ⟨rfl, hq3⟩ := hq2
  refine l_same (tgt := 570) C (show decode code 474 = .ok (.if_icmp .eq 96, 3) by decide +kernel) rfl ?_
  exact (kk ad υ hq3).widen (by omega) (by omega)
set_option maxRecDepth 20000 in
theorem lw_c15 (X : lwX E D g b Ln xs) (h0 : 0 ≤ i) (h1 : i + 5 ≤ Ln) (hkn : k + 300 ≤ 600000 ∧ n + 4000 ≤ 7302250) (h : wp_op 15 (xs (i + 1).toNat).toInt (xs (i + 2).toNat).toInt (xs (i + 3).toNat).toInt (xs (i + 4).toNat).toInt Q σ) (kk : ∀ ad τ, Q τ → zW E (zOK D (fun q => (zst E).heap.size ≤ q) (zst E) g ad) (k + 300) (n + 4000) 570 (lcl b i ad) [] τ) : zW E (zOK D (fun q => (zst E).heap.size ≤ q) (zst E) g ad) k n 479 (lcl b i ad) [] σ := by
  obtain ⟨C, S, hX, hbl, hLn⟩ := id X
  have h : wp_CX_latches (fun r τ => wp_MM_latches (fun r' υ => r' = r ∧ Q υ) (xs (i + 1).toNat).toInt (xs (i + 2).toNat).toInt τ) (xs (i + 1).toNat).toInt (xs (i + 2).toNat).toInt σ := h
  refine z_aload_n C (show decode code 479 = .ok (.aload_n 1, 1) by decide +kernel) 1 rfl ?_
  refine l_arg X h0 h1 1 (by decide) (by decide) (show decode code 480 = .ok (.aload_n 0, 1) by decide +kernel) (show decode code 481 = .ok (.iload_n 3, 1) by decide +kernel) (show decode code 482 = .ok (.iconst 1, 1) by decide +kernel) (show decode code 483 = .ok (.iadd, 1) by decide +kernel) (show decode code 484 = .ok (.iaload, 1) by decide +kernel) ?_
  refine l_arg X h0 h1 2 (by decide) (by decide) (show decode code 485 = .ok (.aload_n 0, 1) by decide +kernel) (show decode code 486 = .ok (.iload_n 3, 1) by decide +kernel) (show decode code 487 = .ok (.iconst 2, 1) by decide +kernel) (show decode code 488 = .ok (.iadd, 1) by decide +kernel) (show decode code 489 = .ok (.iaload, 1) by decide +kernel) ?_
  refine x_callVl (L := lcl b i ad) (st := []) (As := [.int (zi (xs (i + 1).toNat).toInt), .int (zi (xs (i + 2).toNat).toInt)]) C S fy_CX_latches (0, 0) (zids_fix zfix_0) rfl rfl wd_666 (show decode code 490 = .ok (.invokevirtual 79, 3) by decide +kernel) ⟨rfl, rfl, Nat.le_of_ble_eq_true rfl, Nat.le_of_ble_eq_true rfl⟩ rfl rfl (Nat.le_of_ble_eq_true rfl) h (fun h => c_CX_latches (zln E) D g ad (xs (i + 1).toNat).toInt (xs (i + 2).toNat).toInt _ σ h) (fun r τ hq => ?_) ⟨by show k ≤ 600000; omega, by show n ≤ 7302250; omega⟩
  refine z_aload_n C (show decode code 493 = .ok (.aload_n 2, 1) by decide +kernel) 2 rfl ?_
  refine z_sub (L' := lcl b i ad) [0, 1, 2, 3] rfl ?_
  refine l_arg X h0 h1 1 (by decide) (by decide) (show decode code 494 = .ok (.aload_n 0, 1) by decide +kernel) (show decode code 495 = .ok (.iload_n 3, 1) by decide +kernel) (show decode code 496 = .ok (.iconst 1, 1) by decide +kernel) (show decode code 497 = .ok (.iadd, 1) by decide +kernel) (show decode code 498 = .ok (.iaload, 1) by decide +kernel) ?_
  refine l_arg X h0 h1 2 (by decide) (by decide) (show decode code 499 = .ok (.aload_n 0, 1) by decide +kernel) (show decode code 500 = .ok (.iload_n 3, 1) by decide +kernel) (show decode code 501 = .ok (.iconst 2, 1) by decide +kernel) (show decode code 502 = .ok (.iadd, 1) by decide +kernel) (show decode code 503 = .ok (.iaload, 1) by decide +kernel) ?_
  refine l_calll (L := lcl b i ad) (st := [.long (zj r)]) (As := [.int (zi (xs (i + 1).toNat).toInt), .int (zi (xs (i + 2).toNat).toInt)]) C fy_MM_latches rfl wd_1070 (show decode code 504 = .ok (.invokevirtual 83, 3) by decide +kernel) ⟨rfl, rfl, Nat.le_of_ble_eq_true rfl, Nat.le_of_ble_eq_true rfl⟩ ⟨by show k ≤ 600000; omega, by show n ≤ 7302250; omega⟩ rfl rfl (Nat.le_of_ble_eq_true rfl) hq (fun h => c_MM_latches (zln E) D g ad (xs (i + 1).toNat).toInt (xs (i + 2).toNat).toInt _ τ h) (fun r2 υ hq2 => ?_)
  obtain ⟨rfl, hq3⟩ := hq2
  refine l_lsame (tgt := 570) C (show decode code 507 = .ok (.lcmp, 1) by decide +kernel) (show decode code 508 = .ok (.ifCond .eq 62, 3) by decide +kernel) rfl ?_
  exact (kk ad υ hq3).widen (by omega) (by omega)
set_option maxRecDepth 20000 in
theorem lw_c16 (X : lwX E D g b Ln xs) (h0 : 0 ≤ i) (h1 : i + 5 ≤ Ln) (hkn : k + 300 ≤ 600000 ∧ n + 4000 ≤ 7302250) (h : wp_op 16 (xs (i + 1).toNat).toInt (xs (i + 2).toNat).toInt (xs (i + 3).toNat).toInt (xs (i + 4).toNat).toInt Q σ) (kk : ∀ ad τ, Q τ → zW E (zOK D (fun q => (zst E).heap.size ≤ q) (zst E) g ad) (k + 300) (n + 4000) 570 (lcl b i ad) [] τ) : zW E (zOK D (fun q => (zst E).heap.size ≤ q) (zst E) g ad) k n 513 (lcl b i ad) [] σ := by
  obtain ⟨C, S, hX, hbl, hLn⟩ := id X
  have h : wp_CX_clock (fun r τ => wp_MM_clock (fun r' υ => r' = r ∧ Q υ) (xs (i + 1).toNat).toInt τ) (xs (i + 1).toNat).toInt σ := h
  refine z_aload_n C (show decode code 513 = .ok (.aload_n 1, 1) by decide +kernel) 1 rfl ?_
  refine l_arg X h0 h1 1 (by decide) (by decide) (show decode code 514 = .ok (.aload_n 0, 1) by decide +kernel) (show decode code 515 = .ok (.iload_n 3, 1) by decide +kernel) (show decode code 516 = .ok (.iconst 1, 1) by decide +kernel) (show decode code 517 = .ok (.iadd, 1) by decide +kernel) (show decode code 518 = .ok (.iaload, 1) by decide +kernel) ?_
  refine x_callVi (L := lcl b i ad) (st := []) (As := [.int (zi (xs (i + 1).toNat).toInt)]) C S fy_CX_clock (0, 0) (zids_fix zfix_0) rfl rfl wd_673 (show decode code 519 = .ok (.invokevirtual 84, 3) by decide +kernel) ⟨rfl, rfl, Nat.le_of_ble_eq_true rfl, Nat.le_of_ble_eq_true rfl⟩ rfl rfl (Nat.le_of_ble_eq_true rfl) h (fun h => c_CX_clock (zln E) D g ad (xs (i + 1).toNat).toInt _ σ h) (fun r τ hq => ?_) ⟨by show k ≤ 600000; omega, by show n ≤ 7302250; omega⟩
  refine z_aload_n C (show decode code 522 = .ok (.aload_n 2, 1) by decide +kernel) 2 rfl ?_
  refine z_sub (L' := lcl b i ad) [0, 1, 2, 3] rfl ?_
  refine l_arg X h0 h1 1 (by decide) (by decide) (show decode code 523 = .ok (.aload_n 0, 1) by decide +kernel) (show decode code 524 = .ok (.iload_n 3, 1) by decide +kernel) (show decode code 525 = .ok (.iconst 1, 1) by decide +kernel) (show decode code 526 = .ok (.iadd, 1) by decide +kernel) (show decode code 527 = .ok (.iaload, 1) by decide +kernel) ?_
  refine l_calli (L := lcl b i ad) (st := [.int (zi r)]) (As := [.int (zi (xs (i + 1).toNat).toInt)]) C fy_MM_clock rfl wd_1077 (show decode code 528 = .ok (.invokevirtual 87, 3) by decide +kernel) ⟨rfl, rfl, Nat.le_of_ble_eq_true rfl, Nat.le_of_ble_eq_true rfl⟩ ⟨by show k ≤ 600000; omega, by show n ≤ 7302250; omega⟩ rfl rfl (Nat.le_of_ble_eq_true rfl) hq (fun h => c_MM_clock (zln E) D g ad (xs (i + 1).toNat).toInt _ τ h) (fun r2 υ hq2 => ?_)
  obtain ⟨rfl, hq3⟩ := hq2
  refine l_same (tgt := 570) C (show decode code 531 = .ok (.if_icmp .eq 39, 3) by decide +kernel) rfl ?_
  exact (kk ad υ hq3).widen (by omega) (by omega)
set_option maxRecDepth 20000 in
theorem lw_c17 (X : lwX E D g b Ln xs) (h0 : 0 ≤ i) (h1 : i + 5 ≤ Ln) (hkn : k + 300 ≤ 600000 ∧ n + 4000 ≤ 7302250) (h : wp_op 17 (xs (i + 1).toNat).toInt (xs (i + 2).toNat).toInt (xs (i + 3).toNat).toInt (xs (i + 4).toNat).toInt Q σ) (kk : ∀ ad τ, Q τ → zW E (zOK D (fun q => (zst E).heap.size ≤ q) (zst E) g ad) (k + 300) (n + 4000) 570 (lcl b i ad) [] τ) : zW E (zOK D (fun q => (zst E).heap.size ≤ q) (zst E) g ad) k n 536 (lcl b i ad) [] σ := by
  obtain ⟨C, S, hX, hbl, hLn⟩ := id X
  have h : wp_CX_clockRetimed (fun r τ => wp_MM_clockRetimed (fun r' υ => r' = r ∧ Q υ) (xs (i + 1).toNat).toInt τ) (xs (i + 1).toNat).toInt σ := h
  refine z_aload_n C (show decode code 536 = .ok (.aload_n 1, 1) by decide +kernel) 1 rfl ?_
  refine l_arg X h0 h1 1 (by decide) (by decide) (show decode code 537 = .ok (.aload_n 0, 1) by decide +kernel) (show decode code 538 = .ok (.iload_n 3, 1) by decide +kernel) (show decode code 539 = .ok (.iconst 1, 1) by decide +kernel) (show decode code 540 = .ok (.iadd, 1) by decide +kernel) (show decode code 541 = .ok (.iaload, 1) by decide +kernel) ?_
  refine x_callVi (L := lcl b i ad) (st := []) (As := [.int (zi (xs (i + 1).toNat).toInt)]) C S fy_CX_clockRetimed (0, 0) (zids_fix zfix_0) rfl rfl wd_686 (show decode code 542 = .ok (.invokevirtual 88, 3) by decide +kernel) ⟨rfl, rfl, Nat.le_of_ble_eq_true rfl, Nat.le_of_ble_eq_true rfl⟩ rfl rfl (Nat.le_of_ble_eq_true rfl) h (fun h => c_CX_clockRetimed (zln E) D g ad (xs (i + 1).toNat).toInt _ σ h) (fun r τ hq => ?_) ⟨by show k ≤ 600000; omega, by show n ≤ 7302250; omega⟩
  refine z_aload_n C (show decode code 545 = .ok (.aload_n 2, 1) by decide +kernel) 2 rfl ?_
  refine z_sub (L' := lcl b i ad) [0, 1, 2, 3] rfl ?_
  refine l_arg X h0 h1 1 (by decide) (by decide) (show decode code 546 = .ok (.aload_n 0, 1) by decide +kernel) (show decode code 547 = .ok (.iload_n 3, 1) by decide +kernel) (show decode code 548 = .ok (.iconst 1, 1) by decide +kernel) (show decode code 549 = .ok (.iadd, 1) by decide +kernel) (show decode code 550 = .ok (.iaload, 1) by decide +kernel) ?_
  refine l_calli (L := lcl b i ad) (st := [.int (zi r)]) (As := [.int (zi (xs (i + 1).toNat).toInt)]) C fy_MM_clockRetimed rfl wd_1085 (show decode code 551 = .ok (.invokevirtual 91, 3) by decide +kernel) ⟨rfl, rfl, Nat.le_of_ble_eq_true rfl, Nat.le_of_ble_eq_true rfl⟩ ⟨by show k ≤ 600000; omega, by show n ≤ 7302250; omega⟩ rfl rfl (Nat.le_of_ble_eq_true rfl) hq (fun h => c_MM_clockRetimed (zln E) D g ad (xs (i + 1).toNat).toInt _ τ h) (fun r2 υ hq2 => ?_)
  obtain ⟨rfl, hq3⟩ := hq2
  refine l_same (tgt := 570) C (show decode code 554 = .ok (.if_icmp .eq 16, 3) by decide +kernel) rfl ?_
  exact (kk ad υ hq3).widen (by omega) (by omega)
set_option maxRecDepth 20000 in
theorem lw_c18 (X : lwX E D g b Ln xs) (h0 : 0 ≤ i) (h1 : i + 5 ≤ Ln) (hkn : k + 300 ≤ 600000 ∧ n + 4000 ≤ 7302250) (h : wp_op 18 (xs (i + 1).toNat).toInt (xs (i + 2).toNat).toInt (xs (i + 3).toNat).toInt (xs (i + 4).toNat).toInt Q σ) (kk : ∀ ad τ, Q τ → zW E (zOK D (fun q => (zst E).heap.size ≤ q) (zst E) g ad) (k + 300) (n + 4000) 570 (lcl b i ad) [] τ) : zW E (zOK D (fun q => (zst E).heap.size ≤ q) (zst E) g ad) k n 559 (lcl b i ad) [] σ := by
  obtain ⟨C, S, hX, hbl, hLn⟩ := id X
  have h : wp_CX_reset (fun τ => wp_MM_reset Q τ) σ := h
  refine z_aload_n C (show decode code 559 = .ok (.aload_n 1, 1) by decide +kernel) 1 rfl ?_
  refine x_callVv (L := lcl b i ad) (st := []) (As := []) C S fy_CX_reset (0, 0) (zids_fix zfix_0) rfl rfl wd_694 (show decode code 560 = .ok (.invokevirtual 92, 3) by decide +kernel) ⟨rfl, rfl, Nat.le_of_ble_eq_true rfl, Nat.le_of_ble_eq_true rfl⟩ rfl rfl (Nat.le_of_ble_eq_true rfl) h (fun h => c_CX_reset (zln E) D g ad  _ σ h) (fun τ hq => ?_) ⟨by show k ≤ 600000; omega, by show n ≤ 7302250; omega⟩
  refine z_aload_n C (show decode code 563 = .ok (.aload_n 2, 1) by decide +kernel) 2 rfl ?_
  refine l_callv (L := lcl b i ad) (st := []) (As := []) C fy_MM_reset rfl wd_1101 (show decode code 564 = .ok (.invokevirtual 95, 3) by decide +kernel) ⟨rfl, rfl, Nat.le_of_ble_eq_true rfl, Nat.le_of_ble_eq_true rfl⟩ ⟨by show k ≤ 600000; omega, by show n ≤ 7302250; omega⟩ rfl rfl (Nat.le_of_ble_eq_true rfl) hq (fun h => c_MM_reset (zln E) D g ad  _ τ h) (fun υ hq2 => ?_)
  refine z_goto C (show decode code 567 = .ok (.goto 3, 3) by decide +kernel) (tgt := 570) rfl ?_
  exact (kk ad υ hq2).widen (by omega) (by omega)
def lw_offs : Array Int := #[92, 105, 128, 181, 214, 237, 280, 293, 316, 349, 362, 375, 398, 411, 424, 447, 481, 504, 527]
set_option maxRecDepth 20000 in
/-- one turn of the law's loop -/
theorem lw_turn (X : lwX E D g b Ln xs) (h0 : 0 ≤ i) (h1 : i + 5 ≤ Ln) (hkn : k + 300 ≤ 600000 ∧ n + 4000 ≤ 7302250) (h : wp_op (zand (xs i.toNat).toInt 31).toNat (xs (i + 1).toNat).toInt (xs (i + 2).toNat).toInt (xs (i + 3).toNat).toInt (xs (i + 4).toNat).toInt Q σ) (kk : ∀ ad τ, Q τ → zW E (zOK D (fun q => (zst E).heap.size ≤ q) (zst E) g ad) (k + 300) (n + 4000) 570 (lcl b i ad) [] τ) : zW E (zOK D (fun q => (zst E).heap.size ≤ q) (zst E) g ad) k n 26 (lcl b i ad) [] σ := by
  obtain ⟨C, S, hX, hbl, hLn⟩ := id X
  refine z_aload_n C (show decode code 26 = .ok (.aload_n 0, 1) by decide +kernel) 0 rfl ?_
  refine z_iload_n C (show decode code 27 = .ok (.iload_n 3, 1) by decide +kernel) 3 rfl ?_
  refine l_sld C hX hbl h0 (by omega) hLn (show decode code 28 = .ok (.iaload, 1) by decide +kernel) ?_
  refine z_bipush C (show decode code 29 = .ok (.bipush 31, 2) by decide +kernel) rfl ?_
  refine z_iand C (show decode code 31 = .ok (.iand, 1) by decide +kernel) ?_
  have hz := zand31 (xs i.toNat).toInt
  generalize zand (xs i.toNat).toInt 31 = op at hz h ⊢
  obtain ⟨z0, z1⟩ := hz
  have d : decode code 32 = .ok (.tableswitch 538 0 18 lw_offs, 92) := by decide +kernel
  by_cases hop : 18 < op
  · refine l_tabOut (tgt := 570) C d hop z1 rfl ?_
    refine (kk ad σ ?_).widen (by omega) (by omega)
    obtain ⟨q, rfl⟩ := Int.eq_ofNat_of_zero_le z0
    rcases (show q = 19 ∨ q = 20 ∨ q = 21 ∨ q = 22 ∨ q = 23 ∨ q = 24 ∨ q = 25 ∨ q = 26 ∨ q = 27 ∨ q = 28 ∨ q = 29 ∨ q = 30 ∨ q = 31 by omega) with rfl | rfl | rfl | rfl | rfl | rfl | rfl | rfl | rfl | rfl | rfl | rfl | rfl <;> exact h
  · obtain ⟨q, rfl⟩ := Int.eq_ofNat_of_zero_le z0
    rcases (show q = 0 ∨ q = 1 ∨ q = 2 ∨ q = 3 ∨ q = 4 ∨ q = 5 ∨ q = 6 ∨ q = 7 ∨ q = 8 ∨ q = 9 ∨ q = 10 ∨ q = 11 ∨ q = 12 ∨ q = 13 ∨ q = 14 ∨ q = 15 ∨ q = 16 ∨ q = 17 ∨ q = 18 by omega) with rfl | rfl | rfl | rfl | rfl | rfl | rfl | rfl | rfl | rfl | rfl | rfl | rfl | rfl | rfl | rfl | rfl | rfl | rfl
    · exact l_tabIn (tgt := 124) C d z0 (by omega) (off := 92) (by decide +kernel) rfl (lw_c0 X h0 h1 hkn h kk)
    · exact l_tabIn (tgt := 137) C d z0 (by omega) (off := 105) (by decide +kernel) rfl (lw_c1 X h0 h1 hkn h kk)
    · exact l_tabIn (tgt := 160) C d z0 (by omega) (off := 128) (by decide +kernel) rfl (lw_c2 X h0 h1 hkn h kk)
    · exact l_tabIn (tgt := 213) C d z0 (by omega) (off := 181) (by decide +kernel) rfl (lw_c3 X h0 h1 hkn h kk)
    · exact l_tabIn (tgt := 246) C d z0 (by omega) (off := 214) (by decide +kernel) rfl (lw_c4 X h0 h1 hkn h kk)
    · exact l_tabIn (tgt := 269) C d z0 (by omega) (off := 237) (by decide +kernel) rfl (lw_c5 X h0 h1 hkn h kk)
    · exact l_tabIn (tgt := 312) C d z0 (by omega) (off := 280) (by decide +kernel) rfl (lw_c6 X h0 h1 hkn h kk)
    · exact l_tabIn (tgt := 325) C d z0 (by omega) (off := 293) (by decide +kernel) rfl (lw_c7 X h0 h1 hkn h kk)
    · exact l_tabIn (tgt := 348) C d z0 (by omega) (off := 316) (by decide +kernel) rfl (lw_c8 X h0 h1 hkn h kk)
    · exact l_tabIn (tgt := 381) C d z0 (by omega) (off := 349) (by decide +kernel) rfl (lw_c9 X h0 h1 hkn h kk)
    · exact l_tabIn (tgt := 394) C d z0 (by omega) (off := 362) (by decide +kernel) rfl (lw_c10 X h0 h1 hkn h kk)
    · exact l_tabIn (tgt := 407) C d z0 (by omega) (off := 375) (by decide +kernel) rfl (lw_c11 X h0 h1 hkn h kk)
    · exact l_tabIn (tgt := 430) C d z0 (by omega) (off := 398) (by decide +kernel) rfl (lw_c12 X h0 h1 hkn h kk)
    · exact l_tabIn (tgt := 443) C d z0 (by omega) (off := 411) (by decide +kernel) rfl (lw_c13 X h0 h1 hkn h kk)
    · exact l_tabIn (tgt := 456) C d z0 (by omega) (off := 424) (by decide +kernel) rfl (lw_c14 X h0 h1 hkn h kk)
    · exact l_tabIn (tgt := 479) C d z0 (by omega) (off := 447) (by decide +kernel) rfl (lw_c15 X h0 h1 hkn h kk)
    · exact l_tabIn (tgt := 513) C d z0 (by omega) (off := 481) (by decide +kernel) rfl (lw_c16 X h0 h1 hkn h kk)
    · exact l_tabIn (tgt := 536) C d z0 (by omega) (off := 504) (by decide +kernel) rfl (lw_c17 X h0 h1 hkn h kk)
    · exact l_tabIn (tgt := 559) C d z0 (by omega) (off := 527) (by decide +kernel) rfl (lw_c18 X h0 h1 hkn h kk)
/-- the law's loop -/
theorem lw_loop (X : lwX E D g b Ln xs) (Inv : zS → Prop) (hI : ∀ (o a b c d : Int) (σ : zS), 0 ≤ o → o < 32 → zc a → zc b → zc c → zc d → Inv σ → wp_op o.toNat a b c d Inv σ) (hend : ∀ (ad : zA) (j : Nat) (σ : zS), zW E (zOK D (fun q => (zst E).heap.size ≤ q) (zst E) g ad) 600000 7302250 576 (lcl b (5 * j) ad) [] σ) : ∀ (m j : Nat), Ln ≤ 5 * j + m → j ≤ 64 → ∀ (ad : zA) (σ : zS), Inv σ → zW E (zOK D (fun q => (zst E).heap.size ≤ q) (zst E) g ad) (100 + 300 * j) (20000 + 4000 * j) 18 (lcl b (5 * j) ad) [] σ := by
  obtain ⟨C, S, hX, hbl, hLn⟩ := id X
  intro m
  induction m with
  | zero =>
    intro j hm hj ad σ hi
    refine z_iload_n C (show decode code 18 = .ok (.iload_n 3, 1) by decide +kernel) 3 rfl ?_
    refine z_aload_n C (show decode code 19 = .ok (.aload_n 0, 1) by decide +kernel) 0 rfl ?_
    refine l_slen C hX hbl hLn (show decode code 20 = .ok (.arraylength, 1) by decide +kernel) ?_
    refine z_iconst C (show decode code 21 = .ok (.iconst 5, 1) by decide +kernel) ?_
    refine z_isub C (show decode code 22 = .ok (.isub, 1) by decide +kernel) ?_
    refine z_icmp_gt (tgt := 576) (P1 := True) (P2 := False) C (show decode code 23 = .ok (.if_icmp .gt 553, 3) by decide +kernel) rfl (by omega) (by omega) ⟨fun _ => trivial, fun q => by omega⟩ (fun _ => (hend ad j σ).widen (by omega) (by omega)) (fun q => q.elim)
  | succ m ih =>
    intro j hm hj ad σ hi
    refine z_iload_n C (show decode code 18 = .ok (.iload_n 3, 1) by decide +kernel) 3 rfl ?_
    refine z_aload_n C (show decode code 19 = .ok (.aload_n 0, 1) by decide +kernel) 0 rfl ?_
    refine l_slen C hX hbl hLn (show decode code 20 = .ok (.arraylength, 1) by decide +kernel) ?_
    refine z_iconst C (show decode code 21 = .ok (.iconst 5, 1) by decide +kernel) ?_
    refine z_isub C (show decode code 22 = .ok (.isub, 1) by decide +kernel) ?_
    refine z_icmp_gt (tgt := 576) (P1 := True) (P2 := 5 * (j : Int) ≤ (Ln : Int) - 5) C (show decode code 23 = .ok (.if_icmp .gt 553, 3) by decide +kernel) rfl (by omega) (by omega) ⟨fun _ => trivial, fun q => by omega⟩ (fun _ => (hend ad j σ).widen (by omega) (by omega)) (fun q => ?_)
    refine lw_turn X (by omega) (by omega) ⟨by omega, by omega⟩ (hI _ _ _ _ _ σ (zand31 _).1 (zand31 _).2 (zi_c _) (zi_c _) (zi_c _) (zi_c _) hi) (fun ad2 τ ht => ?_)
    refine z_iinc C (show decode code 570 = .ok (.iinc 3 5, 3) by decide +kernel) 3 rfl (by decide) rfl ?_
    refine z_goto C (show decode code 573 = .ok (.goto (-555), 3) by decide +kernel) (tgt := 18) rfl ?_
    refine z_sub (L' := lcl b (5 * ((j + 1 : Nat) : Int)) ad2) [1, 2, 3, 0] (by unfold lcl; rw [show 5 * ((j + 1 : Nat) : Int) = 5 * (j : Int) + 5 by omega]; rfl) ?_
    exact (ih (j + 1) (by omega) (by omega) ad2 τ ht).widen (by omega) (by omega)
end ZLC
