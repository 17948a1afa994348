def lw_g : List Cond := lw_tbl.filter goodWord
theorem lw_good : ∀ w ∈ lw_g, (w.onTables && w.keeps) = true ∨ ∃ ty, w = .arrayClass ty := fun w hw => good_of_word (List.mem_filter.mp hw).2
theorem lw_gt {w : Cond} (h : w ∈ lw_g) : w ∈ lw_tbl := (List.mem_filter.mp h).1
/-! names: classes, their fields, methods; the words of the tables by their places (printed by gen/names.py) -/
def R_AL : String := "java/util/ArrayList"
def F_AL : u_T := fun k => match k with
  | 0 => ("java/util/ArrayList", "elementData", "[Ljava/lang/Object;", false)
  | 1 => ("java/util/ArrayList", "size", "I", false)
  | _ => ("java/util/AbstractList", "modCount", "I", false)
def t_AL : Nat → FieldType := fun k => match k with
  | 0 => .array (.object "java/lang/Object")
  | 1 => .int
  | _ => .int
theorem n_AL : ∀ a, a < 3 → ∀ b, b < 3 → a ≠ b → (F_AL a).2.1 ≠ (F_AL b).2.1 := by decide +kernel
theorem t_AL_ok : ∀ k, k < 3 → parseFieldDescriptor (F_AL k).2.2.1 = some (t_AL k) := by decide +kernel
theorem i_AL : ∀ w ∈ u_ws R_AL F_AL 3, w ∈ lw_g := fun w h => List.mem_filter.mpr ((show ∀ w ∈ u_ws R_AL F_AL 3, w ∈ lw_tbl ∧ goodWord w = true by decide +kernel) w h)
def R_CX : String := "CellMapper"
def F_CX : u_T := fun k => match k with
  | 0 => ("CellMapper", "graph", "LCellMapper$Graph;", true)
  | 1 => ("CellMapper", "nodes", "Ljava/util/ArrayList;", true)
  | 2 => ("CellMapper", "nets", "Ljava/util/ArrayList;", true)
  | 3 => ("CellMapper", "inputs", "Ljava/util/ArrayList;", true)
  | 4 => ("CellMapper", "latches", "Ljava/util/ArrayList;", true)
  | 5 => ("CellMapper", "outputs", "Ljava/util/ArrayList;", true)
  | 6 => ("CellMapper", "cells", "Ljava/util/ArrayList;", true)
  | 7 => ("CellMapper", "digits", "LCellMapper$Digits;", true)
  | 8 => ("CellMapper", "mapped", "Z", false)
  | 9 => ("CellMapper", "end", "[LCellMapper$Node;", true)
  | 10 => ("CellMapper", "source", "[LCellMapper$Node;", true)
  | 11 => ("CellMapper", "weight", "[I", true)
  | 12 => ("CellMapper", "initial", "[J", true)
  | 13 => ("CellMapper", "present", "[J", true)
  | 14 => ("CellMapper", "gates", "I", false)
  | 15 => ("CellMapper", "area", "I", false)
  | 16 => ("CellMapper", "period", "I", false)
  | _ => ("CellMapper", "shortest", "I", false)
def t_CX : Nat → FieldType := fun k => match k with
  | 0 => .object "CellMapper$Graph"
  | 1 => .object "java/util/ArrayList"
  | 2 => .object "java/util/ArrayList"
  | 3 => .object "java/util/ArrayList"
  | 4 => .object "java/util/ArrayList"
  | 5 => .object "java/util/ArrayList"
  | 6 => .object "java/util/ArrayList"
  | 7 => .object "CellMapper$Digits"
  | 8 => .boolean
  | 9 => .array (.object "CellMapper$Node")
  | 10 => .array (.object "CellMapper$Node")
  | 11 => .array .int
  | 12 => .array .long
  | 13 => .array .long
  | 14 => .int
  | 15 => .int
  | 16 => .int
  | _ => .int
theorem n_CX : ∀ a, a < 18 → ∀ b, b < 18 → a ≠ b → (F_CX a).2.1 ≠ (F_CX b).2.1 := by decide +kernel
theorem t_CX_ok : ∀ k, k < 18 → parseFieldDescriptor (F_CX k).2.2.1 = some (t_CX k) := by decide +kernel
theorem i_CX : ∀ w ∈ u_ws R_CX F_CX 18, w ∈ lw_g := fun w h => List.mem_filter.mpr ((show ∀ w ∈ u_ws R_CX F_CX 18, w ∈ lw_tbl ∧ goodWord w = true by decide +kernel) w h)
def R_GR : String := "CellMapper$Graph"
def F_GR : u_T := fun k => match k with
  | _ => ("CellMapper$Graph", "nodes", "Ljava/util/ArrayList;", true)
def t_GR : Nat → FieldType := fun k => match k with
  | _ => .object "java/util/ArrayList"
theorem n_GR : ∀ a, a < 1 → ∀ b, b < 1 → a ≠ b → (F_GR a).2.1 ≠ (F_GR b).2.1 := by decide +kernel
theorem t_GR_ok : ∀ k, k < 1 → parseFieldDescriptor (F_GR k).2.2.1 = some (t_GR k) := by decide +kernel
theorem i_GR : ∀ w ∈ u_ws R_GR F_GR 1, w ∈ lw_g := fun w h => List.mem_filter.mpr ((show ∀ w ∈ u_ws R_GR F_GR 1, w ∈ lw_tbl ∧ goodWord w = true by decide +kernel) w h)
def R_DG : String := "CellMapper$Digits"
def F_DG : u_T := fun k => match k with
  | 0 => ("CellMapper$Digits", "rest", "I", false)
  | _ => ("CellMapper$Digits", "pins", "I", false)
def t_DG : Nat → FieldType := fun k => match k with
  | 0 => .int
  | _ => .int
theorem n_DG : ∀ a, a < 2 → ∀ b, b < 2 → a ≠ b → (F_DG a).2.1 ≠ (F_DG b).2.1 := by decide +kernel
theorem t_DG_ok : ∀ k, k < 2 → parseFieldDescriptor (F_DG k).2.2.1 = some (t_DG k) := by decide +kernel
theorem i_DG : ∀ w ∈ u_ws R_DG F_DG 2, w ∈ lw_g := fun w h => List.mem_filter.mpr ((show ∀ w ∈ u_ws R_DG F_DG 2, w ∈ lw_tbl ∧ goodWord w = true by decide +kernel) w h)
def R_ND : String := "CellMapper$Node"
def F_ND : u_T := fun k => match k with
  | 0 => ("CellMapper$Node", "number", "I", true)
  | 1 => ("CellMapper$Node", "kind", "LCellMapper$Kind;", true)
  | 2 => ("CellMapper$Node", "x", "LCellMapper$Node;", true)
  | 3 => ("CellMapper$Node", "y", "LCellMapper$Node;", true)
  | 4 => ("CellMapper$Node", "data", "I", true)
  | 5 => ("CellMapper$Node", "driver", "LCellMapper$Node;", false)
  | 6 => ("CellMapper$Node", "value", "I", false)
  | 7 => ("CellMapper$Node", "held", "I", false)
  | 8 => ("CellMapper$Node", "own", "I", false)
  | 9 => ("CellMapper$Node", "live", "Z", false)
  | 10 => ("CellMapper$Node", "pinned", "Z", false)
  | 11 => ("CellMapper$Node", "gate", "Z", false)
  | 12 => ("CellMapper$Node", "uses", "I", false)
  | 13 => ("CellMapper$Node", "cost", "I", false)
  | 14 => ("CellMapper$Node", "cell", "LCellMapper$Cell;", false)
  | 15 => ("CellMapper$Node", "tried", "I", false)
  | 16 => ("CellMapper$Node", "moves", "I", false)
  | _ => ("CellMapper$Node", "way", "I", false)
def t_ND : Nat → FieldType := fun k => match k with
  | 0 => .int
  | 1 => .object "CellMapper$Kind"
  | 2 => .object "CellMapper$Node"
  | 3 => .object "CellMapper$Node"
  | 4 => .int
  | 5 => .object "CellMapper$Node"
  | 6 => .int
  | 7 => .int
  | 8 => .int
  | 9 => .boolean
  | 10 => .boolean
  | 11 => .boolean
  | 12 => .int
  | 13 => .int
  | 14 => .object "CellMapper$Cell"
  | 15 => .int
  | 16 => .int
  | _ => .int
theorem n_ND : ∀ a, a < 18 → ∀ b, b < 18 → a ≠ b → (F_ND a).2.1 ≠ (F_ND b).2.1 := by decide +kernel
theorem t_ND_ok : ∀ k, k < 18 → parseFieldDescriptor (F_ND k).2.2.1 = some (t_ND k) := by decide +kernel
theorem i_ND : ∀ w ∈ u_ws R_ND F_ND 18, w ∈ lw_g := fun w h => List.mem_filter.mpr ((show ∀ w ∈ u_ws R_ND F_ND 18, w ∈ lw_tbl ∧ goodWord w = true by decide +kernel) w h)
def R_CE : String := "CellMapper$Cell"
def F_CE : u_T := fun k => match k with
  | 0 => ("CellMapper$Cell", "number", "I", true)
  | 1 => ("CellMapper$Cell", "code", "I", true)
  | 2 => ("CellMapper$Cell", "area", "I", true)
  | 3 => ("CellMapper$Cell", "delay", "I", true)
  | 4 => ("CellMapper$Cell", "pins", "I", true)
  | _ => ("CellMapper$Cell", "pattern", "LCellMapper$Pattern;", true)
def t_CE : Nat → FieldType := fun k => match k with
  | 0 => .int
  | 1 => .int
  | 2 => .int
  | 3 => .int
  | 4 => .int
  | _ => .object "CellMapper$Pattern"
theorem n_CE : ∀ a, a < 6 → ∀ b, b < 6 → a ≠ b → (F_CE a).2.1 ≠ (F_CE b).2.1 := by decide +kernel
theorem t_CE_ok : ∀ k, k < 6 → parseFieldDescriptor (F_CE k).2.2.1 = some (t_CE k) := by decide +kernel
theorem i_CE : ∀ w ∈ u_ws R_CE F_CE 6, w ∈ lw_g := fun w h => List.mem_filter.mpr ((show ∀ w ∈ u_ws R_CE F_CE 6, w ∈ lw_tbl ∧ goodWord w = true by decide +kernel) w h)
def R_PI : String := "CellMapper$Pin"
def F_PI : u_T := fun k => match k with
  | _ => ("CellMapper$Pin", "index", "I", true)
def t_PI : Nat → FieldType := fun k => match k with
  | _ => .int
theorem n_PI : ∀ a, a < 1 → ∀ b, b < 1 → a ≠ b → (F_PI a).2.1 ≠ (F_PI b).2.1 := by decide +kernel
theorem t_PI_ok : ∀ k, k < 1 → parseFieldDescriptor (F_PI k).2.2.1 = some (t_PI k) := by decide +kernel
theorem i_PI : ∀ w ∈ u_ws R_PI F_PI 1, w ∈ lw_g := fun w h => List.mem_filter.mpr ((show ∀ w ∈ u_ws R_PI F_PI 1, w ∈ lw_tbl ∧ goodWord w = true by decide +kernel) w h)
def R_IN : String := "CellMapper$Inv"
def F_IN : u_T := fun k => match k with
  | _ => ("CellMapper$Inv", "of", "LCellMapper$Pattern;", true)
def t_IN : Nat → FieldType := fun k => match k with
  | _ => .object "CellMapper$Pattern"
theorem n_IN : ∀ a, a < 1 → ∀ b, b < 1 → a ≠ b → (F_IN a).2.1 ≠ (F_IN b).2.1 := by decide +kernel
theorem t_IN_ok : ∀ k, k < 1 → parseFieldDescriptor (F_IN k).2.2.1 = some (t_IN k) := by decide +kernel
theorem i_IN : ∀ w ∈ u_ws R_IN F_IN 1, w ∈ lw_g := fun w h => List.mem_filter.mpr ((show ∀ w ∈ u_ws R_IN F_IN 1, w ∈ lw_tbl ∧ goodWord w = true by decide +kernel) w h)
def R_NA : String := "CellMapper$Nand"
def F_NA : u_T := fun k => match k with
  | 0 => ("CellMapper$Nand", "first", "LCellMapper$Pattern;", true)
  | _ => ("CellMapper$Nand", "second", "LCellMapper$Pattern;", true)
def t_NA : Nat → FieldType := fun k => match k with
  | 0 => .object "CellMapper$Pattern"
  | _ => .object "CellMapper$Pattern"
theorem n_NA : ∀ a, a < 2 → ∀ b, b < 2 → a ≠ b → (F_NA a).2.1 ≠ (F_NA b).2.1 := by decide +kernel
theorem t_NA_ok : ∀ k, k < 2 → parseFieldDescriptor (F_NA k).2.2.1 = some (t_NA k) := by decide +kernel
theorem i_NA : ∀ w ∈ u_ws R_NA F_NA 2, w ∈ lw_g := fun w h => List.mem_filter.mpr ((show ∀ w ∈ u_ws R_NA F_NA 2, w ∈ lw_tbl ∧ goodWord w = true by decide +kernel) w h)
def R_MM : String := "CellMapperModel"
def F_MM : u_T := fun k => match k with
  | 0 => ("CellMapperModel", "nets", "I", false)
  | 1 => ("CellMapperModel", "sort", "[I", true)
  | 2 => ("CellMapperModel", "nodeAt", "[I", true)
  | 3 => ("CellMapperModel", "first", "[I", true)
  | 4 => ("CellMapperModel", "now", "[I", true)
  | 5 => ("CellMapperModel", "driver", "[I", true)
  | 6 => ("CellMapperModel", "argA", "[I", true)
  | 7 => ("CellMapperModel", "argB", "[I", true)
  | 8 => ("CellMapperModel", "argC", "[I", true)
  | 9 => ("CellMapperModel", "tableOf", "[I", true)
  | 10 => ("CellMapperModel", "value", "[I", true)
  | 11 => ("CellMapperModel", "inputs", "I", false)
  | 12 => ("CellMapperModel", "latchCount", "I", false)
  | 13 => ("CellMapperModel", "nodeCount", "I", false)
  | 14 => ("CellMapperModel", "kind", "[I", true)
  | 15 => ("CellMapperModel", "px", "[I", true)
  | 16 => ("CellMapperModel", "py", "[I", true)
  | 17 => ("CellMapperModel", "netOf", "[I", true)
  | 18 => ("CellMapperModel", "outputs", "I", false)
  | 19 => ("CellMapperModel", "outputNet", "[I", true)
  | 20 => ("CellMapperModel", "cells", "I", false)
  | 21 => ("CellMapperModel", "pattern", "[I", true)
  | 22 => ("CellMapperModel", "areaOf", "[I", true)
  | 23 => ("CellMapperModel", "delayOf", "[I", true)
  | 24 => ("CellMapperModel", "mapped", "Z", false)
  | 25 => ("CellMapperModel", "live", "[Z", true)
  | 26 => ("CellMapperModel", "root", "[Z", true)
  | 27 => ("CellMapperModel", "readers", "[I", true)
  | 28 => ("CellMapperModel", "cost", "[I", true)
  | 29 => ("CellMapperModel", "choice", "[I", true)
  | 30 => ("CellMapperModel", "swaps", "[I", true)
  | 31 => ("CellMapperModel", "gate", "[Z", true)
  | 32 => ("CellMapperModel", "stack", "[I", true)
  | 33 => ("CellMapperModel", "pinNode", "[I", true)
  | 34 => ("CellMapperModel", "pins", "I", false)
  | 35 => ("CellMapperModel", "source", "[I", true)
  | 36 => ("CellMapperModel", "latchesAt", "[I", true)
  | 37 => ("CellMapperModel", "starts", "[J", true)
  | 38 => ("CellMapperModel", "kept", "[I", true)
  | 39 => ("CellMapperModel", "later", "[J", true)
  | 40 => ("CellMapperModel", "present", "[J", true)
  | 41 => ("CellMapperModel", "far", "[I", true)
  | 42 => ("CellMapperModel", "slow", "[I", true)
  | 43 => ("CellMapperModel", "move", "[I", true)
  | 44 => ("CellMapperModel", "periodBefore", "I", false)
  | 45 => ("CellMapperModel", "periodAfter", "I", false)
  | 46 => ("CellMapperModel", "gave", "[I", true)
  | 47 => ("CellMapperModel", "given", "[I", true)
  | 48 => ("CellMapperModel", "known", "[Z", true)
  | 49 => ("CellMapperModel", "signal", "[I", true)
  | _ => ("CellMapperModel", "operand", "[I", true)
def t_MM : Nat → FieldType := fun k => match k with
  | 0 => .int
  | 1 => .array .int
  | 2 => .array .int
  | 3 => .array .int
  | 4 => .array .int
  | 5 => .array .int
  | 6 => .array .int
  | 7 => .array .int
  | 8 => .array .int
  | 9 => .array .int
  | 10 => .array .int
  | 11 => .int
  | 12 => .int
  | 13 => .int
  | 14 => .array .int
  | 15 => .array .int
  | 16 => .array .int
  | 17 => .array .int
  | 18 => .int
  | 19 => .array .int
  | 20 => .int
  | 21 => .array .int
  | 22 => .array .int
  | 23 => .array .int
  | 24 => .boolean
  | 25 => .array .boolean
  | 26 => .array .boolean
  | 27 => .array .int
  | 28 => .array .int
  | 29 => .array .int
  | 30 => .array .int
  | 31 => .array .boolean
  | 32 => .array .int
  | 33 => .array .int
  | 34 => .int
  | 35 => .array .int
  | 36 => .array .int
  | 37 => .array .long
  | 38 => .array .int
  | 39 => .array .long
  | 40 => .array .long
  | 41 => .array .int
  | 42 => .array .int
  | 43 => .array .int
  | 44 => .int
  | 45 => .int
  | 46 => .array .int
  | 47 => .array .int
  | 48 => .array .boolean
  | 49 => .array .int
  | _ => .array .int
theorem n_MM : ∀ a, a < 51 → ∀ b, b < 51 → a ≠ b → (F_MM a).2.1 ≠ (F_MM b).2.1 := by decide +kernel
theorem t_MM_ok : ∀ k, k < 51 → parseFieldDescriptor (F_MM k).2.2.1 = some (t_MM k) := by decide +kernel
theorem i_MM : ∀ w ∈ u_ws R_MM F_MM 51, w ∈ lw_g := fun w h => List.mem_filter.mpr ((show ∀ w ∈ u_ws R_MM F_MM 51, w ∈ lw_tbl ∧ goodWord w = true by decide +kernel) w h)
abbrev classes : List vw_C := [(R_AL, F_AL, 3), (R_CX, F_CX, 18), (R_GR, F_GR, 1), (R_DG, F_DG, 2), (R_ND, F_ND, 18), (R_CE, F_CE, 6), (R_PI, F_PI, 1), (R_IN, F_IN, 1), (R_NA, F_NA, 2), (R_MM, F_MM, 51)]
/-- a callee's words: an instance method that selects itself -/
def zY (y : MethodName) (bytes : ByteArray) (maxL : Nat) (ret : Option FieldType) (n : Nat) : Prop := Cond.instanceMethod y ∈ lw_g ∧ Cond.selects y.cls y y ∈ lw_g ∧ Cond.initialized y.cls ∈ lw_g ∧ Cond.code y bytes maxL ret ∈ lw_g ∧ (y.cls ≠ "java/lang/invoke/MethodHandle" ∧ y.cls ≠ "java/lang/invoke/VarHandle" ∧ (parseMethodDescriptor y.desc).map (fun d => d.parameters.length) = some n)
def zYs (y : MethodName) (bytes : ByteArray) (maxL : Nat) (ret : Option FieldType) (n : Nat) : Prop := Cond.static y ∈ lw_g ∧ Cond.initialized y.cls ∈ lw_g ∧ Cond.code y bytes maxL ret ∈ lw_g ∧ (y.cls ≠ "java/lang/invoke/MethodHandle" ∧ y.cls ≠ "java/lang/invoke/VarHandle" ∧ (parseMethodDescriptor y.desc).map (fun d => d.parameters.length) = some n)
def y_CX_init : MethodName := ⟨"CellMapper", "<init>", "()V"⟩
abbrev b_CX_init : ByteArray := prog_1_method_4_code
set_option maxRecDepth 20000 in
theorem wc_CX_init : Cond.code y_CX_init b_CX_init 1 ((none : Option ClassFile.FieldType)) ∈ lw_g := List.mem_filter.mpr ⟨List.mem_append_right _ (List.mem_of_getElem? (i := 26) rfl), rfl⟩
theorem wd_25 : (Cond.instanceMethod ⟨"CellMapper", "<init>", "()V"⟩) ∈ lw_g := List.mem_filter.mpr ⟨List.mem_append_right _ (List.mem_of_getElem? (i := 25) (by decide +kernel)), rfl⟩
theorem wd_1 : (Cond.initialized "CellMapper") ∈ lw_g := List.mem_filter.mpr ⟨List.mem_append_right _ (List.mem_of_getElem? (i := 1) (by decide +kernel)), rfl⟩
def y_OJ_init : MethodName := ⟨"java/lang/Object", "<init>", "()V"⟩
abbrev b_OJ_init : ByteArray := object_method_1_code
set_option maxRecDepth 20000 in
theorem wc_OJ_init : Cond.code y_OJ_init b_OJ_init 1 ((none : Option ClassFile.FieldType)) ∈ lw_g := List.mem_filter.mpr ⟨List.mem_append_right _ (List.mem_of_getElem? (i := 29) rfl), rfl⟩
def y_GR_init : MethodName := ⟨"CellMapper$Graph", "<init>", "()V"⟩
abbrev b_GR_init : ByteArray := prog_4_method_1_code
set_option maxRecDepth 20000 in
theorem wc_GR_init : Cond.code y_GR_init b_GR_init 1 ((none : Option ClassFile.FieldType)) ∈ lw_g := List.mem_filter.mpr ⟨List.mem_append_right _ (List.mem_of_getElem? (i := 34) rfl), rfl⟩
theorem wd_33 : (Cond.instanceMethod ⟨"CellMapper$Graph", "<init>", "()V"⟩) ∈ lw_g := List.mem_filter.mpr ⟨List.mem_append_right _ (List.mem_of_getElem? (i := 33) (by decide +kernel)), rfl⟩
theorem wd_2 : (Cond.initialized "CellMapper$Graph") ∈ lw_g := List.mem_filter.mpr ⟨List.mem_append_right _ (List.mem_of_getElem? (i := 2) (by decide +kernel)), rfl⟩
def y_AL_init : MethodName := ⟨"java/util/ArrayList", "<init>", "()V"⟩
abbrev b_AL_init : ByteArray := prog_22_method_2_code
set_option maxRecDepth 20000 in
theorem wc_AL_init : Cond.code y_AL_init b_AL_init 1 ((none : Option ClassFile.FieldType)) ∈ lw_g := List.mem_filter.mpr ⟨List.mem_append_right _ (List.mem_of_getElem? (i := 40) rfl), rfl⟩
theorem wd_39 : (Cond.instanceMethod ⟨"java/util/ArrayList", "<init>", "()V"⟩) ∈ lw_g := List.mem_filter.mpr ⟨List.mem_append_right _ (List.mem_of_getElem? (i := 39) (by decide +kernel)), rfl⟩
theorem wd_5 : (Cond.initialized "java/util/ArrayList") ∈ lw_g := List.mem_filter.mpr ⟨List.mem_append_right _ (List.mem_of_getElem? (i := 5) (by decide +kernel)), rfl⟩
def y_BL_init : MethodName := ⟨"java/util/AbstractList", "<init>", "()V"⟩
abbrev b_BL_init : ByteArray := prog_21_method_1_code
set_option maxRecDepth 20000 in
theorem wc_BL_init : Cond.code y_BL_init b_BL_init 1 ((none : Option ClassFile.FieldType)) ∈ lw_g := List.mem_filter.mpr ⟨List.mem_append_right _ (List.mem_of_getElem? (i := 43) rfl), rfl⟩
theorem wd_42 : (Cond.instanceMethod ⟨"java/util/AbstractList", "<init>", "()V"⟩) ∈ lw_g := List.mem_filter.mpr ⟨List.mem_append_right _ (List.mem_of_getElem? (i := 42) (by decide +kernel)), rfl⟩
theorem wd_4 : (Cond.initialized "java/util/AbstractList") ∈ lw_g := List.mem_filter.mpr ⟨List.mem_append_right _ (List.mem_of_getElem? (i := 4) (by decide +kernel)), rfl⟩
def y_BC_init : MethodName := ⟨"java/util/AbstractCollection", "<init>", "()V"⟩
abbrev b_BC_init : ByteArray := prog_20_method_1_code
set_option maxRecDepth 20000 in
theorem wc_BC_init : Cond.code y_BC_init b_BC_init 1 ((none : Option ClassFile.FieldType)) ∈ lw_g := List.mem_filter.mpr ⟨List.mem_append_right _ (List.mem_of_getElem? (i := 46) rfl), rfl⟩
theorem wd_45 : (Cond.instanceMethod ⟨"java/util/AbstractCollection", "<init>", "()V"⟩) ∈ lw_g := List.mem_filter.mpr ⟨List.mem_append_right _ (List.mem_of_getElem? (i := 45) (by decide +kernel)), rfl⟩
theorem wd_3 : (Cond.initialized "java/util/AbstractCollection") ∈ lw_g := List.mem_filter.mpr ⟨List.mem_append_right _ (List.mem_of_getElem? (i := 3) (by decide +kernel)), rfl⟩
def y_DG_init : MethodName := ⟨"CellMapper$Digits", "<init>", "()V"⟩
abbrev b_DG_init : ByteArray := prog_3_method_1_code
set_option maxRecDepth 20000 in
theorem wc_DG_init : Cond.code y_DG_init b_DG_init 1 ((none : Option ClassFile.FieldType)) ∈ lw_g := List.mem_filter.mpr ⟨List.mem_append_right _ (List.mem_of_getElem? (i := 73) rfl), rfl⟩
theorem wd_72 : (Cond.instanceMethod ⟨"CellMapper$Digits", "<init>", "()V"⟩) ∈ lw_g := List.mem_filter.mpr ⟨List.mem_append_right _ (List.mem_of_getElem? (i := 72) (by decide +kernel)), rfl⟩
theorem wd_6 : (Cond.initialized "CellMapper$Digits") ∈ lw_g := List.mem_filter.mpr ⟨List.mem_append_right _ (List.mem_of_getElem? (i := 6) (by decide +kernel)), rfl⟩
def y_CX_input : MethodName := ⟨"CellMapper", "input", "()I"⟩
abbrev b_CX_input : ByteArray := prog_1_method_8_code
set_option maxRecDepth 20000 in
theorem wc_CX_input : Cond.code y_CX_input b_CX_input 2 ((some .int)) ∈ lw_g := List.mem_filter.mpr ⟨List.mem_append_right _ (List.mem_of_getElem? (i := 145) rfl), rfl⟩
theorem wd_143 : (Cond.instanceMethod ⟨"CellMapper", "input", "()I"⟩) ∈ lw_g := List.mem_filter.mpr ⟨List.mem_append_right _ (List.mem_of_getElem? (i := 143) (by decide +kernel)), rfl⟩
theorem wd_144 : (Cond.selects "CellMapper" ⟨"CellMapper", "input", "()I"⟩ ⟨"CellMapper", "input", "()I"⟩) ∈ lw_g := List.mem_filter.mpr ⟨List.mem_append_right _ (List.mem_of_getElem? (i := 144) (by decide +kernel)), rfl⟩
theorem fy_CX_input : zY y_CX_input b_CX_input 2 ((some .int)) 0 := ⟨wd_143, wd_144, wd_1, wc_CX_input, ⟨by decide +kernel, by decide +kernel, by decide +kernel⟩⟩
def y_AL_size : MethodName := ⟨"java/util/ArrayList", "size", "()I"⟩
abbrev b_AL_size : ByteArray := prog_22_method_8_code
set_option maxRecDepth 20000 in
theorem wc_AL_size : Cond.code y_AL_size b_AL_size 1 ((some .int)) ∈ lw_g := List.mem_filter.mpr ⟨List.mem_append_right _ (List.mem_of_getElem? (i := 149) rfl), rfl⟩
theorem wd_147 : (Cond.instanceMethod ⟨"java/util/ArrayList", "size", "()I"⟩) ∈ lw_g := List.mem_filter.mpr ⟨List.mem_append_right _ (List.mem_of_getElem? (i := 147) (by decide +kernel)), rfl⟩
theorem wd_148 : (Cond.selects "java/util/ArrayList" ⟨"java/util/ArrayList", "size", "()I"⟩ ⟨"java/util/ArrayList", "size", "()I"⟩) ∈ lw_g := List.mem_filter.mpr ⟨List.mem_append_right _ (List.mem_of_getElem? (i := 148) (by decide +kernel)), rfl⟩
theorem fy_AL_size : zY y_AL_size b_AL_size 1 ((some .int)) 0 := ⟨wd_147, wd_148, wd_5, wc_AL_size, ⟨by decide +kernel, by decide +kernel, by decide +kernel⟩⟩
def y_GR_add : MethodName := ⟨"CellMapper$Graph", "add", "(LCellMapper$Kind;LCellMapper$Node;LCellMapper$Node;I)LCellMapper$Node;"⟩
abbrev b_GR_add : ByteArray := prog_4_method_2_code
set_option maxRecDepth 20000 in
theorem wc_GR_add : Cond.code y_GR_add b_GR_add 6 ((some (.object "CellMapper$Node"))) ∈ lw_g := List.mem_filter.mpr ⟨List.mem_append_right _ (List.mem_of_getElem? (i := 155) rfl), rfl⟩
theorem wd_153 : (Cond.instanceMethod ⟨"CellMapper$Graph", "add", "(LCellMapper$Kind;LCellMapper$Node;LCellMapper$Node;I)LCellMapper$Node;"⟩) ∈ lw_g := List.mem_filter.mpr ⟨List.mem_append_right _ (List.mem_of_getElem? (i := 153) (by decide +kernel)), rfl⟩
theorem wd_154 : (Cond.selects "CellMapper$Graph" ⟨"CellMapper$Graph", "add", "(LCellMapper$Kind;LCellMapper$Node;LCellMapper$Node;I)LCellMapper$Node;"⟩ ⟨"CellMapper$Graph", "add", "(LCellMapper$Kind;LCellMapper$Node;LCellMapper$Node;I)LCellMapper$Node;"⟩) ∈ lw_g := List.mem_filter.mpr ⟨List.mem_append_right _ (List.mem_of_getElem? (i := 154) (by decide +kernel)), rfl⟩
theorem fy_GR_add : zY y_GR_add b_GR_add 6 ((some (.object "CellMapper$Node"))) 4 := ⟨wd_153, wd_154, wd_2, wc_GR_add, ⟨by decide +kernel, by decide +kernel, by decide +kernel⟩⟩
def y_ND_init : MethodName := ⟨"CellMapper$Node", "<init>", "(ILCellMapper$Kind;LCellMapper$Node;LCellMapper$Node;I)V"⟩
abbrev b_ND_init : ByteArray := prog_8_method_1_code
set_option maxRecDepth 20000 in
theorem wc_ND_init : Cond.code y_ND_init b_ND_init 6 ((none : Option ClassFile.FieldType)) ∈ lw_g := List.mem_filter.mpr ⟨List.mem_append_right _ (List.mem_of_getElem? (i := 161) rfl), rfl⟩
theorem wd_160 : (Cond.instanceMethod ⟨"CellMapper$Node", "<init>", "(ILCellMapper$Kind;LCellMapper$Node;LCellMapper$Node;I)V"⟩) ∈ lw_g := List.mem_filter.mpr ⟨List.mem_append_right _ (List.mem_of_getElem? (i := 160) (by decide +kernel)), rfl⟩
theorem wd_10 : (Cond.initialized "CellMapper$Node") ∈ lw_g := List.mem_filter.mpr ⟨List.mem_append_right _ (List.mem_of_getElem? (i := 10) (by decide +kernel)), rfl⟩
def y_AL_add : MethodName := ⟨"java/util/ArrayList", "add", "(Ljava/lang/Object;)Z"⟩
abbrev b_AL_add : ByteArray := prog_22_method_25_code
set_option maxRecDepth 20000 in
theorem wc_AL_add : Cond.code y_AL_add b_AL_add 2 ((some .boolean)) ∈ lw_g := List.mem_filter.mpr ⟨List.mem_append_right _ (List.mem_of_getElem? (i := 242) rfl), rfl⟩
theorem wd_240 : (Cond.instanceMethod ⟨"java/util/ArrayList", "add", "(Ljava/lang/Object;)Z"⟩) ∈ lw_g := List.mem_filter.mpr ⟨List.mem_append_right _ (List.mem_of_getElem? (i := 240) (by decide +kernel)), rfl⟩
theorem wd_241 : (Cond.selects "java/util/ArrayList" ⟨"java/util/ArrayList", "add", "(Ljava/lang/Object;)Z"⟩ ⟨"java/util/ArrayList", "add", "(Ljava/lang/Object;)Z"⟩) ∈ lw_g := List.mem_filter.mpr ⟨List.mem_append_right _ (List.mem_of_getElem? (i := 241) (by decide +kernel)), rfl⟩
theorem fy_AL_add : zY y_AL_add b_AL_add 2 ((some .boolean)) 1 := ⟨wd_240, wd_241, wd_5, wc_AL_add, ⟨by decide +kernel, by decide +kernel, by decide +kernel⟩⟩
def y_AL_add3 : MethodName := ⟨"java/util/ArrayList", "add", "(Ljava/lang/Object;[Ljava/lang/Object;I)V"⟩
abbrev b_AL_add3 : ByteArray := prog_22_method_24_code
set_option maxRecDepth 20000 in
theorem wc_AL_add3 : Cond.code y_AL_add3 b_AL_add3 4 ((none : Option ClassFile.FieldType)) ∈ lw_g := List.mem_filter.mpr ⟨List.mem_append_right _ (List.mem_of_getElem? (i := 246) rfl), rfl⟩
theorem wd_245 : (Cond.instanceMethod ⟨"java/util/ArrayList", "add", "(Ljava/lang/Object;[Ljava/lang/Object;I)V"⟩) ∈ lw_g := List.mem_filter.mpr ⟨List.mem_append_right _ (List.mem_of_getElem? (i := 245) (by decide +kernel)), rfl⟩
theorem ws_AL_add3 : Cond.selects y_AL_add3.cls y_AL_add3 y_AL_add3 ∈ lw_g := List.mem_filter.mpr ⟨List.mem_append_left _ (List.mem_of_getElem? (i := 0) (by decide +kernel)), rfl⟩
theorem fy_AL_add3 : zY y_AL_add3 b_AL_add3 4 ((none : Option ClassFile.FieldType)) 3 := ⟨wd_245, ws_AL_add3, wd_5, wc_AL_add3, ⟨by decide +kernel, by decide +kernel, by decide +kernel⟩⟩
def y_AL_grow0 : MethodName := ⟨"java/util/ArrayList", "grow", "()[Ljava/lang/Object;"⟩
abbrev b_AL_grow0 : ByteArray := prog_22_method_7_code
set_option maxRecDepth 20000 in
theorem wc_AL_grow0 : Cond.code y_AL_grow0 b_AL_grow0 1 ((some (.array (.object "java/lang/Object")))) ∈ lw_g := List.mem_filter.mpr ⟨List.mem_append_right _ (List.mem_of_getElem? (i := 250) rfl), rfl⟩
theorem wd_249 : (Cond.instanceMethod ⟨"java/util/ArrayList", "grow", "()[Ljava/lang/Object;"⟩) ∈ lw_g := List.mem_filter.mpr ⟨List.mem_append_right _ (List.mem_of_getElem? (i := 249) (by decide +kernel)), rfl⟩
theorem ws_AL_grow0 : Cond.selects y_AL_grow0.cls y_AL_grow0 y_AL_grow0 ∈ lw_g := List.mem_filter.mpr ⟨List.mem_append_left _ (List.mem_of_getElem? (i := 1) (by decide +kernel)), rfl⟩
theorem fy_AL_grow0 : zY y_AL_grow0 b_AL_grow0 1 ((some (.array (.object "java/lang/Object")))) 0 := ⟨wd_249, ws_AL_grow0, wd_5, wc_AL_grow0, ⟨by decide +kernel, by decide +kernel, by decide +kernel⟩⟩
def y_AL_grow1 : MethodName := ⟨"java/util/ArrayList", "grow", "(I)[Ljava/lang/Object;"⟩
abbrev b_AL_grow1 : ByteArray := prog_22_method_6_code
set_option maxRecDepth 20000 in
theorem wc_AL_grow1 : Cond.code y_AL_grow1 b_AL_grow1 4 ((some (.array (.object "java/lang/Object")))) ∈ lw_g := List.mem_filter.mpr ⟨List.mem_append_right _ (List.mem_of_getElem? (i := 254) rfl), rfl⟩
theorem wd_253 : (Cond.instanceMethod ⟨"java/util/ArrayList", "grow", "(I)[Ljava/lang/Object;"⟩) ∈ lw_g := List.mem_filter.mpr ⟨List.mem_append_right _ (List.mem_of_getElem? (i := 253) (by decide +kernel)), rfl⟩
theorem ws_AL_grow1 : Cond.selects y_AL_grow1.cls y_AL_grow1 y_AL_grow1 ∈ lw_g := List.mem_filter.mpr ⟨List.mem_append_left _ (List.mem_of_getElem? (i := 2) (by decide +kernel)), rfl⟩
theorem fy_AL_grow1 : zY y_AL_grow1 b_AL_grow1 4 ((some (.array (.object "java/lang/Object")))) 1 := ⟨wd_253, ws_AL_grow1, wd_5, wc_AL_grow1, ⟨by decide +kernel, by decide +kernel, by decide +kernel⟩⟩
def y_AS_newLength : MethodName := ⟨"jdk/internal/util/ArraysSupport", "newLength", "(III)I"⟩
abbrev b_AS_newLength : ByteArray := prog_29_method_27_code
set_option maxRecDepth 20000 in
theorem wc_AS_newLength : Cond.code y_AS_newLength b_AS_newLength 4 ((some .int)) ∈ lw_g := List.mem_filter.mpr ⟨List.mem_append_right _ (List.mem_of_getElem? (i := 257) rfl), rfl⟩
theorem wd_256 : (Cond.static ⟨"jdk/internal/util/ArraysSupport", "newLength", "(III)I"⟩) ∈ lw_g := List.mem_filter.mpr ⟨List.mem_append_right _ (List.mem_of_getElem? (i := 256) (by decide +kernel)), rfl⟩
theorem wd_11 : (Cond.initialized "jdk/internal/util/ArraysSupport") ∈ lw_g := List.mem_filter.mpr ⟨List.mem_append_right _ (List.mem_of_getElem? (i := 11) (by decide +kernel)), rfl⟩
theorem fs_AS_newLength : zYs y_AS_newLength b_AS_newLength 4 ((some .int)) 3 := ⟨wd_256, wd_11, wc_AS_newLength, ⟨by decide +kernel, by decide +kernel, by decide +kernel⟩⟩
def y_MA_max : MethodName := ⟨"java/lang/Math", "max", "(II)I"⟩
abbrev b_MA_max : ByteArray := prog_17_method_65_code
set_option maxRecDepth 20000 in
theorem wc_MA_max : Cond.code y_MA_max b_MA_max 2 ((some .int)) ∈ lw_g := List.mem_filter.mpr ⟨List.mem_append_right _ (List.mem_of_getElem? (i := 260) rfl), rfl⟩
theorem wd_259 : (Cond.static ⟨"java/lang/Math", "max", "(II)I"⟩) ∈ lw_g := List.mem_filter.mpr ⟨List.mem_append_right _ (List.mem_of_getElem? (i := 259) (by decide +kernel)), rfl⟩
theorem wd_12 : (Cond.initialized "java/lang/Math") ∈ lw_g := List.mem_filter.mpr ⟨List.mem_append_right _ (List.mem_of_getElem? (i := 12) (by decide +kernel)), rfl⟩
theorem fs_MA_max : zYs y_MA_max b_MA_max 2 ((some .int)) 2 := ⟨wd_259, wd_12, wc_MA_max, ⟨by decide +kernel, by decide +kernel, by decide +kernel⟩⟩
def y_AS_hugeLength : MethodName := ⟨"jdk/internal/util/ArraysSupport", "hugeLength", "(II)I"⟩
abbrev b_AS_hugeLength : ByteArray := prog_29_method_28_code
set_option maxRecDepth 20000 in
theorem wc_AS_hugeLength : Cond.code y_AS_hugeLength b_AS_hugeLength 3 ((some .int)) ∈ lw_g := List.mem_filter.mpr ⟨List.mem_append_right _ (List.mem_of_getElem? (i := 264) rfl), rfl⟩
theorem wd_263 : (Cond.static ⟨"jdk/internal/util/ArraysSupport", "hugeLength", "(II)I"⟩) ∈ lw_g := List.mem_filter.mpr ⟨List.mem_append_right _ (List.mem_of_getElem? (i := 263) (by decide +kernel)), rfl⟩
theorem fs_AS_hugeLength : zYs y_AS_hugeLength b_AS_hugeLength 3 ((some .int)) 2 := ⟨wd_263, wd_11, wc_AS_hugeLength, ⟨by decide +kernel, by decide +kernel, by decide +kernel⟩⟩
def y_AR_copyOf2 : MethodName := ⟨"java/util/Arrays", "copyOf", "([Ljava/lang/Object;I)[Ljava/lang/Object;"⟩
abbrev b_AR_copyOf2 : ByteArray := prog_23_method_119_code
set_option maxRecDepth 20000 in
theorem wc_AR_copyOf2 : Cond.code y_AR_copyOf2 b_AR_copyOf2 2 ((some (.array (.object "java/lang/Object")))) ∈ lw_g := List.mem_filter.mpr ⟨List.mem_append_right _ (List.mem_of_getElem? (i := 267) rfl), rfl⟩
theorem wd_266 : (Cond.static ⟨"java/util/Arrays", "copyOf", "([Ljava/lang/Object;I)[Ljava/lang/Object;"⟩) ∈ lw_g := List.mem_filter.mpr ⟨List.mem_append_right _ (List.mem_of_getElem? (i := 266) (by decide +kernel)), rfl⟩
theorem wd_13 : (Cond.initialized "java/util/Arrays") ∈ lw_g := List.mem_filter.mpr ⟨List.mem_append_right _ (List.mem_of_getElem? (i := 13) (by decide +kernel)), rfl⟩
theorem fs_AR_copyOf2 : zYs y_AR_copyOf2 b_AR_copyOf2 2 ((some (.array (.object "java/lang/Object")))) 2 := ⟨wd_266, wd_13, wc_AR_copyOf2, ⟨by decide +kernel, by decide +kernel, by decide +kernel⟩⟩
def y_AR_copyOf3 : MethodName := ⟨"java/util/Arrays", "copyOf", "([Ljava/lang/Object;ILjava/lang/Class;)[Ljava/lang/Object;"⟩
abbrev b_AR_copyOf3 : ByteArray := prog_23_method_120_code
set_option maxRecDepth 20000 in
theorem wc_AR_copyOf3 : Cond.code y_AR_copyOf3 b_AR_copyOf3 4 ((some (.array (.object "java/lang/Object")))) ∈ lw_g := List.mem_filter.mpr ⟨List.mem_append_right _ (List.mem_of_getElem? (i := 285) rfl), rfl⟩
theorem wd_284 : (Cond.static ⟨"java/util/Arrays", "copyOf", "([Ljava/lang/Object;ILjava/lang/Class;)[Ljava/lang/Object;"⟩) ∈ lw_g := List.mem_filter.mpr ⟨List.mem_append_right _ (List.mem_of_getElem? (i := 284) (by decide +kernel)), rfl⟩
theorem fs_AR_copyOf3 : zYs y_AR_copyOf3 b_AR_copyOf3 4 ((some (.array (.object "java/lang/Object")))) 3 := ⟨wd_284, wd_13, wc_AR_copyOf3, ⟨by decide +kernel, by decide +kernel, by decide +kernel⟩⟩
def y_MA_min : MethodName := ⟨"java/lang/Math", "min", "(II)I"⟩
abbrev b_MA_min : ByteArray := prog_17_method_69_code
set_option maxRecDepth 20000 in
theorem wc_MA_min : Cond.code y_MA_min b_MA_min 2 ((some .int)) ∈ lw_g := List.mem_filter.mpr ⟨List.mem_append_right _ (List.mem_of_getElem? (i := 291) rfl), rfl⟩
theorem wd_290 : (Cond.static ⟨"java/lang/Math", "min", "(II)I"⟩) ∈ lw_g := List.mem_filter.mpr ⟨List.mem_append_right _ (List.mem_of_getElem? (i := 290) (by decide +kernel)), rfl⟩
theorem fs_MA_min : zYs y_MA_min b_MA_min 2 ((some .int)) 2 := ⟨wd_290, wd_12, wc_MA_min, ⟨by decide +kernel, by decide +kernel, by decide +kernel⟩⟩
def y_CX_net : MethodName := ⟨"CellMapper", "net", "(LCellMapper$Node;)I"⟩
abbrev b_CX_net : ByteArray := prog_1_method_6_code
set_option maxRecDepth 20000 in
theorem wc_CX_net : Cond.code y_CX_net b_CX_net 2 ((some .int)) ∈ lw_g := List.mem_filter.mpr ⟨List.mem_append_right _ (List.mem_of_getElem? (i := 301) rfl), rfl⟩
theorem wd_300 : (Cond.instanceMethod ⟨"CellMapper", "net", "(LCellMapper$Node;)I"⟩) ∈ lw_g := List.mem_filter.mpr ⟨List.mem_append_right _ (List.mem_of_getElem? (i := 300) (by decide +kernel)), rfl⟩
theorem ws_CX_net : Cond.selects y_CX_net.cls y_CX_net y_CX_net ∈ lw_g := List.mem_filter.mpr ⟨List.mem_append_left _ (List.mem_of_getElem? (i := 3) (by decide +kernel)), rfl⟩
theorem fy_CX_net : zY y_CX_net b_CX_net 2 ((some .int)) 1 := ⟨wd_300, ws_CX_net, wd_1, wc_CX_net, ⟨by decide +kernel, by decide +kernel, by decide +kernel⟩⟩
def y_CX_changed : MethodName := ⟨"CellMapper", "changed", "()V"⟩
abbrev b_CX_changed : ByteArray := prog_1_method_5_code
set_option maxRecDepth 20000 in
theorem wc_CX_changed : Cond.code y_CX_changed b_CX_changed 3 ((none : Option ClassFile.FieldType)) ∈ lw_g := List.mem_filter.mpr ⟨List.mem_append_right _ (List.mem_of_getElem? (i := 305) rfl), rfl⟩
theorem wd_304 : (Cond.instanceMethod ⟨"CellMapper", "changed", "()V"⟩) ∈ lw_g := List.mem_filter.mpr ⟨List.mem_append_right _ (List.mem_of_getElem? (i := 304) (by decide +kernel)), rfl⟩
theorem ws_CX_changed : Cond.selects y_CX_changed.cls y_CX_changed y_CX_changed ∈ lw_g := List.mem_filter.mpr ⟨List.mem_append_left _ (List.mem_of_getElem? (i := 4) (by decide +kernel)), rfl⟩
theorem fy_CX_changed : zY y_CX_changed b_CX_changed 3 ((none : Option ClassFile.FieldType)) 0 := ⟨wd_304, ws_CX_changed, wd_1, wc_CX_changed, ⟨by decide +kernel, by decide +kernel, by decide +kernel⟩⟩
def y_AL_get : MethodName := ⟨"java/util/ArrayList", "get", "(I)Ljava/lang/Object;"⟩
abbrev b_AL_get : ByteArray := prog_22_method_20_code
set_option maxRecDepth 20000 in
theorem wc_AL_get : Cond.code y_AL_get b_AL_get 2 ((some (.object "java/lang/Object"))) ∈ lw_g := List.mem_filter.mpr ⟨List.mem_append_right _ (List.mem_of_getElem? (i := 309) rfl), rfl⟩
theorem wd_307 : (Cond.instanceMethod ⟨"java/util/ArrayList", "get", "(I)Ljava/lang/Object;"⟩) ∈ lw_g := List.mem_filter.mpr ⟨List.mem_append_right _ (List.mem_of_getElem? (i := 307) (by decide +kernel)), rfl⟩
theorem wd_308 : (Cond.selects "java/util/ArrayList" ⟨"java/util/ArrayList", "get", "(I)Ljava/lang/Object;"⟩ ⟨"java/util/ArrayList", "get", "(I)Ljava/lang/Object;"⟩) ∈ lw_g := List.mem_filter.mpr ⟨List.mem_append_right _ (List.mem_of_getElem? (i := 308) (by decide +kernel)), rfl⟩
theorem fy_AL_get : zY y_AL_get b_AL_get 2 ((some (.object "java/lang/Object"))) 1 := ⟨wd_307, wd_308, wd_5, wc_AL_get, ⟨by decide +kernel, by decide +kernel, by decide +kernel⟩⟩
def y_OB_checkIndex : MethodName := ⟨"java/util/Objects", "checkIndex", "(II)I"⟩
abbrev b_OB_checkIndex : ByteArray := prog_26_method_17_code
set_option maxRecDepth 20000 in
theorem wc_OB_checkIndex : Cond.code y_OB_checkIndex b_OB_checkIndex 2 ((some .int)) ∈ lw_g := List.mem_filter.mpr ⟨List.mem_append_right _ (List.mem_of_getElem? (i := 312) rfl), rfl⟩
theorem wd_311 : (Cond.static ⟨"java/util/Objects", "checkIndex", "(II)I"⟩) ∈ lw_g := List.mem_filter.mpr ⟨List.mem_append_right _ (List.mem_of_getElem? (i := 311) (by decide +kernel)), rfl⟩
theorem wd_15 : (Cond.initialized "java/util/Objects") ∈ lw_g := List.mem_filter.mpr ⟨List.mem_append_right _ (List.mem_of_getElem? (i := 15) (by decide +kernel)), rfl⟩
theorem fs_OB_checkIndex : zYs y_OB_checkIndex b_OB_checkIndex 2 ((some .int)) 2 := ⟨wd_311, wd_15, wc_OB_checkIndex, ⟨by decide +kernel, by decide +kernel, by decide +kernel⟩⟩
def y_PR_checkIndex : MethodName := ⟨"jdk/internal/util/Preconditions", "checkIndex", "(IILjava/util/function/BiFunction;)I"⟩
abbrev b_PR_checkIndex : ByteArray := prog_30_method_11_code
set_option maxRecDepth 20000 in
theorem wc_PR_checkIndex : Cond.code y_PR_checkIndex b_PR_checkIndex 3 ((some .int)) ∈ lw_g := List.mem_filter.mpr ⟨List.mem_append_right _ (List.mem_of_getElem? (i := 315) rfl), rfl⟩
theorem wd_314 : (Cond.static ⟨"jdk/internal/util/Preconditions", "checkIndex", "(IILjava/util/function/BiFunction;)I"⟩) ∈ lw_g := List.mem_filter.mpr ⟨List.mem_append_right _ (List.mem_of_getElem? (i := 314) (by decide +kernel)), rfl⟩
theorem wd_16 : (Cond.initialized "jdk/internal/util/Preconditions") ∈ lw_g := List.mem_filter.mpr ⟨List.mem_append_right _ (List.mem_of_getElem? (i := 16) (by decide +kernel)), rfl⟩
theorem fs_PR_checkIndex : zYs y_PR_checkIndex b_PR_checkIndex 3 ((some .int)) 3 := ⟨wd_314, wd_16, wc_PR_checkIndex, ⟨by decide +kernel, by decide +kernel, by decide +kernel⟩⟩
def y_AL_elementData : MethodName := ⟨"java/util/ArrayList", "elementData", "(I)Ljava/lang/Object;"⟩
abbrev b_AL_elementData : ByteArray := prog_22_method_18_code
set_option maxRecDepth 20000 in
theorem wc_AL_elementData : Cond.code y_AL_elementData b_AL_elementData 2 ((some (.object "java/lang/Object"))) ∈ lw_g := List.mem_filter.mpr ⟨List.mem_append_right _ (List.mem_of_getElem? (i := 319) rfl), rfl⟩
theorem wd_317 : (Cond.instanceMethod ⟨"java/util/ArrayList", "elementData", "(I)Ljava/lang/Object;"⟩) ∈ lw_g := List.mem_filter.mpr ⟨List.mem_append_right _ (List.mem_of_getElem? (i := 317) (by decide +kernel)), rfl⟩
theorem wd_318 : (Cond.selects "java/util/ArrayList" ⟨"java/util/ArrayList", "elementData", "(I)Ljava/lang/Object;"⟩ ⟨"java/util/ArrayList", "elementData", "(I)Ljava/lang/Object;"⟩) ∈ lw_g := List.mem_filter.mpr ⟨List.mem_append_right _ (List.mem_of_getElem? (i := 318) (by decide +kernel)), rfl⟩
theorem fy_AL_elementData : zY y_AL_elementData b_AL_elementData 2 ((some (.object "java/lang/Object"))) 1 := ⟨wd_317, wd_318, wd_5, wc_AL_elementData, ⟨by decide +kernel, by decide +kernel, by decide +kernel⟩⟩
def y_CX_latch : MethodName := ⟨"CellMapper", "latch", "(I)I"⟩
abbrev b_CX_latch : ByteArray := prog_1_method_9_code
set_option maxRecDepth 20000 in
theorem wc_CX_latch : Cond.code y_CX_latch b_CX_latch 3 ((some .int)) ∈ lw_g := List.mem_filter.mpr ⟨List.mem_append_right _ (List.mem_of_getElem? (i := 323) rfl), rfl⟩
theorem wd_321 : (Cond.instanceMethod ⟨"CellMapper", "latch", "(I)I"⟩) ∈ lw_g := List.mem_filter.mpr ⟨List.mem_append_right _ (List.mem_of_getElem? (i := 321) (by decide +kernel)), rfl⟩
theorem wd_322 : (Cond.selects "CellMapper" ⟨"CellMapper", "latch", "(I)I"⟩ ⟨"CellMapper", "latch", "(I)I"⟩) ∈ lw_g := List.mem_filter.mpr ⟨List.mem_append_right _ (List.mem_of_getElem? (i := 322) (by decide +kernel)), rfl⟩
theorem fy_CX_latch : zY y_CX_latch b_CX_latch 3 ((some .int)) 1 := ⟨wd_321, wd_322, wd_1, wc_CX_latch, ⟨by decide +kernel, by decide +kernel, by decide +kernel⟩⟩
def y_CX_function : MethodName := ⟨"CellMapper", "function", "(IIII)I"⟩
abbrev b_CX_function : ByteArray := prog_1_method_10_code
set_option maxRecDepth 20000 in
theorem wc_CX_function : Cond.code y_CX_function b_CX_function 10 ((some .int)) ∈ lw_g := List.mem_filter.mpr ⟨List.mem_append_right _ (List.mem_of_getElem? (i := 328) rfl), rfl⟩
theorem wd_326 : (Cond.instanceMethod ⟨"CellMapper", "function", "(IIII)I"⟩) ∈ lw_g := List.mem_filter.mpr ⟨List.mem_append_right _ (List.mem_of_getElem? (i := 326) (by decide +kernel)), rfl⟩
theorem wd_327 : (Cond.selects "CellMapper" ⟨"CellMapper", "function", "(IIII)I"⟩ ⟨"CellMapper", "function", "(IIII)I"⟩) ∈ lw_g := List.mem_filter.mpr ⟨List.mem_append_right _ (List.mem_of_getElem? (i := 327) (by decide +kernel)), rfl⟩
theorem fy_CX_function : zY y_CX_function b_CX_function 10 ((some .int)) 4 := ⟨wd_326, wd_327, wd_1, wc_CX_function, ⟨by decide +kernel, by decide +kernel, by decide +kernel⟩⟩
def y_CX_at : MethodName := ⟨"CellMapper", "at", "(I)LCellMapper$Node;"⟩
abbrev b_CX_at : ByteArray := prog_1_method_7_code
set_option maxRecDepth 20000 in
theorem wc_CX_at : Cond.code y_CX_at b_CX_at 2 ((some (.object "CellMapper$Node"))) ∈ lw_g := List.mem_filter.mpr ⟨List.mem_append_right _ (List.mem_of_getElem? (i := 332) rfl), rfl⟩
theorem wd_331 : (Cond.instanceMethod ⟨"CellMapper", "at", "(I)LCellMapper$Node;"⟩) ∈ lw_g := List.mem_filter.mpr ⟨List.mem_append_right _ (List.mem_of_getElem? (i := 331) (by decide +kernel)), rfl⟩
theorem ws_CX_at : Cond.selects y_CX_at.cls y_CX_at y_CX_at ∈ lw_g := List.mem_filter.mpr ⟨List.mem_append_left _ (List.mem_of_getElem? (i := 5) (by decide +kernel)), rfl⟩
theorem fy_CX_at : zY y_CX_at b_CX_at 2 ((some (.object "CellMapper$Node"))) 1 := ⟨wd_331, ws_CX_at, wd_1, wc_CX_at, ⟨by decide +kernel, by decide +kernel, by decide +kernel⟩⟩
def y_CX_build : MethodName := ⟨"CellMapper", "build", "(LCellMapper$Graph;ILCellMapper$Node;LCellMapper$Node;LCellMapper$Node;I)LCellMapper$Node;"⟩
abbrev b_CX_build : ByteArray := prog_1_method_3_code
set_option maxRecDepth 20000 in
theorem wc_CX_build : Cond.code y_CX_build b_CX_build 16 ((some (.object "CellMapper$Node"))) ∈ lw_g := List.mem_filter.mpr ⟨List.mem_append_right _ (List.mem_of_getElem? (i := 335) rfl), rfl⟩
theorem wd_334 : (Cond.static ⟨"CellMapper", "build", "(LCellMapper$Graph;ILCellMapper$Node;LCellMapper$Node;LCellMapper$Node;I)LCellMapper$Node;"⟩) ∈ lw_g := List.mem_filter.mpr ⟨List.mem_append_right _ (List.mem_of_getElem? (i := 334) (by decide +kernel)), rfl⟩
theorem fs_CX_build : zYs y_CX_build b_CX_build 16 ((some (.object "CellMapper$Node"))) 6 := ⟨wd_334, wd_1, wc_CX_build, ⟨by decide +kernel, by decide +kernel, by decide +kernel⟩⟩
def y_GR_inv : MethodName := ⟨"CellMapper$Graph", "inv", "(LCellMapper$Node;)LCellMapper$Node;"⟩
abbrev b_GR_inv : ByteArray := prog_4_method_4_code
set_option maxRecDepth 20000 in
theorem wc_GR_inv : Cond.code y_GR_inv b_GR_inv 2 ((some (.object "CellMapper$Node"))) ∈ lw_g := List.mem_filter.mpr ⟨List.mem_append_right _ (List.mem_of_getElem? (i := 339) rfl), rfl⟩
theorem wd_337 : (Cond.instanceMethod ⟨"CellMapper$Graph", "inv", "(LCellMapper$Node;)LCellMapper$Node;"⟩) ∈ lw_g := List.mem_filter.mpr ⟨List.mem_append_right _ (List.mem_of_getElem? (i := 337) (by decide +kernel)), rfl⟩
theorem wd_338 : (Cond.selects "CellMapper$Graph" ⟨"CellMapper$Graph", "inv", "(LCellMapper$Node;)LCellMapper$Node;"⟩ ⟨"CellMapper$Graph", "inv", "(LCellMapper$Node;)LCellMapper$Node;"⟩) ∈ lw_g := List.mem_filter.mpr ⟨List.mem_append_right _ (List.mem_of_getElem? (i := 338) (by decide +kernel)), rfl⟩
theorem fy_GR_inv : zY y_GR_inv b_GR_inv 2 ((some (.object "CellMapper$Node"))) 1 := ⟨wd_337, wd_338, wd_2, wc_GR_inv, ⟨by decide +kernel, by decide +kernel, by decide +kernel⟩⟩
def y_GR_shared : MethodName := ⟨"CellMapper$Graph", "shared", "(LCellMapper$Kind;LCellMapper$Node;LCellMapper$Node;)LCellMapper$Node;"⟩
abbrev b_GR_shared : ByteArray := prog_4_method_3_code
set_option maxRecDepth 20000 in
theorem wc_GR_shared : Cond.code y_GR_shared b_GR_shared 6 ((some (.object "CellMapper$Node"))) ∈ lw_g := List.mem_filter.mpr ⟨List.mem_append_right _ (List.mem_of_getElem? (i := 345) rfl), rfl⟩
theorem wd_344 : (Cond.instanceMethod ⟨"CellMapper$Graph", "shared", "(LCellMapper$Kind;LCellMapper$Node;LCellMapper$Node;)LCellMapper$Node;"⟩) ∈ lw_g := List.mem_filter.mpr ⟨List.mem_append_right _ (List.mem_of_getElem? (i := 344) (by decide +kernel)), rfl⟩
theorem ws_GR_shared : Cond.selects y_GR_shared.cls y_GR_shared y_GR_shared ∈ lw_g := List.mem_filter.mpr ⟨List.mem_append_left _ (List.mem_of_getElem? (i := 6) (by decide +kernel)), rfl⟩
theorem fy_GR_shared : zY y_GR_shared b_GR_shared 6 ((some (.object "CellMapper$Node"))) 3 := ⟨wd_344, ws_GR_shared, wd_2, wc_GR_shared, ⟨by decide +kernel, by decide +kernel, by decide +kernel⟩⟩
def y_GR_gated : MethodName := ⟨"CellMapper$Graph", "gated", "(LCellMapper$Node;LCellMapper$Node;Z)LCellMapper$Node;"⟩
abbrev b_GR_gated : ByteArray := prog_4_method_6_code
set_option maxRecDepth 20000 in
theorem wc_GR_gated : Cond.code y_GR_gated b_GR_gated 5 ((some (.object "CellMapper$Node"))) ∈ lw_g := List.mem_filter.mpr ⟨List.mem_append_right _ (List.mem_of_getElem? (i := 351) rfl), rfl⟩
theorem wd_349 : (Cond.instanceMethod ⟨"CellMapper$Graph", "gated", "(LCellMapper$Node;LCellMapper$Node;Z)LCellMapper$Node;"⟩) ∈ lw_g := List.mem_filter.mpr ⟨List.mem_append_right _ (List.mem_of_getElem? (i := 349) (by decide +kernel)), rfl⟩
theorem wd_350 : (Cond.selects "CellMapper$Graph" ⟨"CellMapper$Graph", "gated", "(LCellMapper$Node;LCellMapper$Node;Z)LCellMapper$Node;"⟩ ⟨"CellMapper$Graph", "gated", "(LCellMapper$Node;LCellMapper$Node;Z)LCellMapper$Node;"⟩) ∈ lw_g := List.mem_filter.mpr ⟨List.mem_append_right _ (List.mem_of_getElem? (i := 350) (by decide +kernel)), rfl⟩
theorem fy_GR_gated : zY y_GR_gated b_GR_gated 5 ((some (.object "CellMapper$Node"))) 3 := ⟨wd_349, wd_350, wd_2, wc_GR_gated, ⟨by decide +kernel, by decide +kernel, by decide +kernel⟩⟩
def y_GR_nand : MethodName := ⟨"CellMapper$Graph", "nand", "(LCellMapper$Node;LCellMapper$Node;)LCellMapper$Node;"⟩
abbrev b_GR_nand : ByteArray := prog_4_method_5_code
set_option maxRecDepth 20000 in
theorem wc_GR_nand : Cond.code y_GR_nand b_GR_nand 3 ((some (.object "CellMapper$Node"))) ∈ lw_g := List.mem_filter.mpr ⟨List.mem_append_right _ (List.mem_of_getElem? (i := 355) rfl), rfl⟩
theorem wd_353 : (Cond.instanceMethod ⟨"CellMapper$Graph", "nand", "(LCellMapper$Node;LCellMapper$Node;)LCellMapper$Node;"⟩) ∈ lw_g := List.mem_filter.mpr ⟨List.mem_append_right _ (List.mem_of_getElem? (i := 353) (by decide +kernel)), rfl⟩
theorem wd_354 : (Cond.selects "CellMapper$Graph" ⟨"CellMapper$Graph", "nand", "(LCellMapper$Node;LCellMapper$Node;)LCellMapper$Node;"⟩ ⟨"CellMapper$Graph", "nand", "(LCellMapper$Node;LCellMapper$Node;)LCellMapper$Node;"⟩) ∈ lw_g := List.mem_filter.mpr ⟨List.mem_append_right _ (List.mem_of_getElem? (i := 354) (by decide +kernel)), rfl⟩
theorem fy_GR_nand : zY y_GR_nand b_GR_nand 3 ((some (.object "CellMapper$Node"))) 2 := ⟨wd_353, wd_354, wd_2, wc_GR_nand, ⟨by decide +kernel, by decide +kernel, by decide +kernel⟩⟩
def y_CX_drive : MethodName := ⟨"CellMapper", "drive", "(II)Z"⟩
abbrev b_CX_drive : ByteArray := prog_1_method_11_code
set_option maxRecDepth 20000 in
theorem wc_CX_drive : Cond.code y_CX_drive b_CX_drive 5 ((some .boolean)) ∈ lw_g := List.mem_filter.mpr ⟨List.mem_append_right _ (List.mem_of_getElem? (i := 363) rfl), rfl⟩
theorem wd_361 : (Cond.instanceMethod ⟨"CellMapper", "drive", "(II)Z"⟩) ∈ lw_g := List.mem_filter.mpr ⟨List.mem_append_right _ (List.mem_of_getElem? (i := 361) (by decide +kernel)), rfl⟩
theorem wd_362 : (Cond.selects "CellMapper" ⟨"CellMapper", "drive", "(II)Z"⟩ ⟨"CellMapper", "drive", "(II)Z"⟩) ∈ lw_g := List.mem_filter.mpr ⟨List.mem_append_right _ (List.mem_of_getElem? (i := 362) (by decide +kernel)), rfl⟩
theorem fy_CX_drive : zY y_CX_drive b_CX_drive 5 ((some .boolean)) 2 := ⟨wd_361, wd_362, wd_1, wc_CX_drive, ⟨by decide +kernel, by decide +kernel, by decide +kernel⟩⟩
def y_CX_output : MethodName := ⟨"CellMapper", "output", "(I)I"⟩
abbrev b_CX_output : ByteArray := prog_1_method_12_code
set_option maxRecDepth 20000 in
theorem wc_CX_output : Cond.code y_CX_output b_CX_output 3 ((some .int)) ∈ lw_g := List.mem_filter.mpr ⟨List.mem_append_right _ (List.mem_of_getElem? (i := 367) rfl), rfl⟩
theorem wd_365 : (Cond.instanceMethod ⟨"CellMapper", "output", "(I)I"⟩) ∈ lw_g := List.mem_filter.mpr ⟨List.mem_append_right _ (List.mem_of_getElem? (i := 365) (by decide +kernel)), rfl⟩
theorem wd_366 : (Cond.selects "CellMapper" ⟨"CellMapper", "output", "(I)I"⟩ ⟨"CellMapper", "output", "(I)I"⟩) ∈ lw_g := List.mem_filter.mpr ⟨List.mem_append_right _ (List.mem_of_getElem? (i := 366) (by decide +kernel)), rfl⟩
theorem fy_CX_output : zY y_CX_output b_CX_output 3 ((some .int)) 1 := ⟨wd_365, wd_366, wd_1, wc_CX_output, ⟨by decide +kernel, by decide +kernel, by decide +kernel⟩⟩
def y_CX_cell : MethodName := ⟨"CellMapper", "cell", "(III)I"⟩
abbrev b_CX_cell : ByteArray := prog_1_method_13_code
set_option maxRecDepth 20000 in
theorem wc_CX_cell : Cond.code y_CX_cell b_CX_cell 5 ((some .int)) ∈ lw_g := List.mem_filter.mpr ⟨List.mem_append_right _ (List.mem_of_getElem? (i := 371) rfl), rfl⟩
theorem wd_369 : (Cond.instanceMethod ⟨"CellMapper", "cell", "(III)I"⟩) ∈ lw_g := List.mem_filter.mpr ⟨List.mem_append_right _ (List.mem_of_getElem? (i := 369) (by decide +kernel)), rfl⟩
theorem wd_370 : (Cond.selects "CellMapper" ⟨"CellMapper", "cell", "(III)I"⟩ ⟨"CellMapper", "cell", "(III)I"⟩) ∈ lw_g := List.mem_filter.mpr ⟨List.mem_append_right _ (List.mem_of_getElem? (i := 370) (by decide +kernel)), rfl⟩
theorem fy_CX_cell : zY y_CX_cell b_CX_cell 5 ((some .int)) 3 := ⟨wd_369, wd_370, wd_1, wc_CX_cell, ⟨by decide +kernel, by decide +kernel, by decide +kernel⟩⟩
def y_CX_shaped : MethodName := ⟨"CellMapper", "shaped", "(I)Z"⟩
abbrev b_CX_shaped : ByteArray := prog_1_method_1_code
set_option maxRecDepth 20000 in
theorem wc_CX_shaped : Cond.code y_CX_shaped b_CX_shaped 5 ((some .boolean)) ∈ lw_g := List.mem_filter.mpr ⟨List.mem_append_right _ (List.mem_of_getElem? (i := 374) rfl), rfl⟩
theorem wd_373 : (Cond.static ⟨"CellMapper", "shaped", "(I)Z"⟩) ∈ lw_g := List.mem_filter.mpr ⟨List.mem_append_right _ (List.mem_of_getElem? (i := 373) (by decide +kernel)), rfl⟩
theorem fs_CX_shaped : zYs y_CX_shaped b_CX_shaped 5 ((some .boolean)) 1 := ⟨wd_373, wd_1, wc_CX_shaped, ⟨by decide +kernel, by decide +kernel, by decide +kernel⟩⟩
def y_DG_begin : MethodName := ⟨"CellMapper$Digits", "begin", "(I)V"⟩
abbrev b_DG_begin : ByteArray := prog_3_method_2_code
set_option maxRecDepth 20000 in
theorem wc_DG_begin : Cond.code y_DG_begin b_DG_begin 2 ((none : Option ClassFile.FieldType)) ∈ lw_g := List.mem_filter.mpr ⟨List.mem_append_right _ (List.mem_of_getElem? (i := 378) rfl), rfl⟩
theorem wd_376 : (Cond.instanceMethod ⟨"CellMapper$Digits", "begin", "(I)V"⟩) ∈ lw_g := List.mem_filter.mpr ⟨List.mem_append_right _ (List.mem_of_getElem? (i := 376) (by decide +kernel)), rfl⟩
theorem wd_377 : (Cond.selects "CellMapper$Digits" ⟨"CellMapper$Digits", "begin", "(I)V"⟩ ⟨"CellMapper$Digits", "begin", "(I)V"⟩) ∈ lw_g := List.mem_filter.mpr ⟨List.mem_append_right _ (List.mem_of_getElem? (i := 377) (by decide +kernel)), rfl⟩
theorem fy_DG_begin : zY y_DG_begin b_DG_begin 2 ((none : Option ClassFile.FieldType)) 1 := ⟨wd_376, wd_377, wd_6, wc_DG_begin, ⟨by decide +kernel, by decide +kernel, by decide +kernel⟩⟩
def y_CX_parse : MethodName := ⟨"CellMapper", "parse", "(LCellMapper$Digits;I)LCellMapper$Pattern;"⟩
abbrev b_CX_parse : ByteArray := prog_1_method_2_code
set_option maxRecDepth 20000 in
theorem wc_CX_parse : Cond.code y_CX_parse b_CX_parse 4 ((some (.object "CellMapper$Pattern"))) ∈ lw_g := List.mem_filter.mpr ⟨List.mem_append_right _ (List.mem_of_getElem? (i := 381) rfl), rfl⟩
theorem wd_380 : (Cond.static ⟨"CellMapper", "parse", "(LCellMapper$Digits;I)LCellMapper$Pattern;"⟩) ∈ lw_g := List.mem_filter.mpr ⟨List.mem_append_right _ (List.mem_of_getElem? (i := 380) (by decide +kernel)), rfl⟩
theorem fs_CX_parse : zYs y_CX_parse b_CX_parse 4 ((some (.object "CellMapper$Pattern"))) 2 := ⟨wd_380, wd_1, wc_CX_parse, ⟨by decide +kernel, by decide +kernel, by decide +kernel⟩⟩
def y_DG_next : MethodName := ⟨"CellMapper$Digits", "next", "()I"⟩
abbrev b_DG_next : ByteArray := prog_3_method_3_code
set_option maxRecDepth 20000 in
theorem wc_DG_next : Cond.code y_DG_next b_DG_next 2 ((some .int)) ∈ lw_g := List.mem_filter.mpr ⟨List.mem_append_right _ (List.mem_of_getElem? (i := 385) rfl), rfl⟩
theorem wd_383 : (Cond.instanceMethod ⟨"CellMapper$Digits", "next", "()I"⟩) ∈ lw_g := List.mem_filter.mpr ⟨List.mem_append_right _ (List.mem_of_getElem? (i := 383) (by decide +kernel)), rfl⟩
theorem wd_384 : (Cond.selects "CellMapper$Digits" ⟨"CellMapper$Digits", "next", "()I"⟩ ⟨"CellMapper$Digits", "next", "()I"⟩) ∈ lw_g := List.mem_filter.mpr ⟨List.mem_append_right _ (List.mem_of_getElem? (i := 384) (by decide +kernel)), rfl⟩
theorem fy_DG_next : zY y_DG_next b_DG_next 2 ((some .int)) 0 := ⟨wd_383, wd_384, wd_6, wc_DG_next, ⟨by decide +kernel, by decide +kernel, by decide +kernel⟩⟩
def y_PI_init : MethodName := ⟨"CellMapper$Pin", "<init>", "(I)V"⟩
abbrev b_PI_init : ByteArray := prog_10_method_1_code
set_option maxRecDepth 20000 in
theorem wc_PI_init : Cond.code y_PI_init b_PI_init 2 ((none : Option ClassFile.FieldType)) ∈ lw_g := List.mem_filter.mpr ⟨List.mem_append_right _ (List.mem_of_getElem? (i := 390) rfl), rfl⟩
theorem wd_389 : (Cond.instanceMethod ⟨"CellMapper$Pin", "<init>", "(I)V"⟩) ∈ lw_g := List.mem_filter.mpr ⟨List.mem_append_right _ (List.mem_of_getElem? (i := 389) (by decide +kernel)), rfl⟩
theorem wd_18 : (Cond.initialized "CellMapper$Pin") ∈ lw_g := List.mem_filter.mpr ⟨List.mem_append_right _ (List.mem_of_getElem? (i := 18) (by decide +kernel)), rfl⟩
def y_RC_init : MethodName := ⟨"java/lang/Record", "<init>", "()V"⟩
abbrev b_RC_init : ByteArray := prog_18_method_1_code
set_option maxRecDepth 20000 in
theorem wc_RC_init : Cond.code y_RC_init b_RC_init 1 ((none : Option ClassFile.FieldType)) ∈ lw_g := List.mem_filter.mpr ⟨List.mem_append_right _ (List.mem_of_getElem? (i := 393) rfl), rfl⟩
theorem wd_392 : (Cond.instanceMethod ⟨"java/lang/Record", "<init>", "()V"⟩) ∈ lw_g := List.mem_filter.mpr ⟨List.mem_append_right _ (List.mem_of_getElem? (i := 392) (by decide +kernel)), rfl⟩
theorem wd_17 : (Cond.initialized "java/lang/Record") ∈ lw_g := List.mem_filter.mpr ⟨List.mem_append_right _ (List.mem_of_getElem? (i := 17) (by decide +kernel)), rfl⟩
def y_IN_init : MethodName := ⟨"CellMapper$Inv", "<init>", "(LCellMapper$Pattern;)V"⟩
abbrev b_IN_init : ByteArray := prog_5_method_1_code
set_option maxRecDepth 20000 in
theorem wc_IN_init : Cond.code y_IN_init b_IN_init 2 ((none : Option ClassFile.FieldType)) ∈ lw_g := List.mem_filter.mpr ⟨List.mem_append_right _ (List.mem_of_getElem? (i := 403) rfl), rfl⟩
theorem wd_402 : (Cond.instanceMethod ⟨"CellMapper$Inv", "<init>", "(LCellMapper$Pattern;)V"⟩) ∈ lw_g := List.mem_filter.mpr ⟨List.mem_append_right _ (List.mem_of_getElem? (i := 402) (by decide +kernel)), rfl⟩
theorem wd_19 : (Cond.initialized "CellMapper$Inv") ∈ lw_g := List.mem_filter.mpr ⟨List.mem_append_right _ (List.mem_of_getElem? (i := 19) (by decide +kernel)), rfl⟩
def y_NA_init : MethodName := ⟨"CellMapper$Nand", "<init>", "(LCellMapper$Pattern;LCellMapper$Pattern;)V"⟩
abbrev b_NA_init : ByteArray := prog_7_method_1_code
set_option maxRecDepth 20000 in
theorem wc_NA_init : Cond.code y_NA_init b_NA_init 3 ((none : Option ClassFile.FieldType)) ∈ lw_g := List.mem_filter.mpr ⟨List.mem_append_right _ (List.mem_of_getElem? (i := 413) rfl), rfl⟩
theorem wd_412 : (Cond.instanceMethod ⟨"CellMapper$Nand", "<init>", "(LCellMapper$Pattern;LCellMapper$Pattern;)V"⟩) ∈ lw_g := List.mem_filter.mpr ⟨List.mem_append_right _ (List.mem_of_getElem? (i := 412) (by decide +kernel)), rfl⟩
theorem wd_20 : (Cond.initialized "CellMapper$Nand") ∈ lw_g := List.mem_filter.mpr ⟨List.mem_append_right _ (List.mem_of_getElem? (i := 20) (by decide +kernel)), rfl⟩
def y_CE_init : MethodName := ⟨"CellMapper$Cell", "<init>", "(IIIIILCellMapper$Pattern;)V"⟩
abbrev b_CE_init : ByteArray := prog_2_method_1_code
set_option maxRecDepth 20000 in
theorem wc_CE_init : Cond.code y_CE_init b_CE_init 7 ((none : Option ClassFile.FieldType)) ∈ lw_g := List.mem_filter.mpr ⟨List.mem_append_right _ (List.mem_of_getElem? (i := 426) rfl), rfl⟩
theorem wd_425 : (Cond.instanceMethod ⟨"CellMapper$Cell", "<init>", "(IIIIILCellMapper$Pattern;)V"⟩) ∈ lw_g := List.mem_filter.mpr ⟨List.mem_append_right _ (List.mem_of_getElem? (i := 425) (by decide +kernel)), rfl⟩
theorem wd_21 : (Cond.initialized "CellMapper$Cell") ∈ lw_g := List.mem_filter.mpr ⟨List.mem_append_right _ (List.mem_of_getElem? (i := 21) (by decide +kernel)), rfl⟩
def y_CX_nodes : MethodName := ⟨"CellMapper", "nodes", "()I"⟩
abbrev b_CX_nodes : ByteArray := prog_1_method_14_code
set_option maxRecDepth 20000 in
theorem wc_CX_nodes : Cond.code y_CX_nodes b_CX_nodes 1 ((some .int)) ∈ lw_g := List.mem_filter.mpr ⟨List.mem_append_right _ (List.mem_of_getElem? (i := 456) rfl), rfl⟩
theorem wd_454 : (Cond.instanceMethod ⟨"CellMapper", "nodes", "()I"⟩) ∈ lw_g := List.mem_filter.mpr ⟨List.mem_append_right _ (List.mem_of_getElem? (i := 454) (by decide +kernel)), rfl⟩
theorem wd_455 : (Cond.selects "CellMapper" ⟨"CellMapper", "nodes", "()I"⟩ ⟨"CellMapper", "nodes", "()I"⟩) ∈ lw_g := List.mem_filter.mpr ⟨List.mem_append_right _ (List.mem_of_getElem? (i := 455) (by decide +kernel)), rfl⟩
theorem fy_CX_nodes : zY y_CX_nodes b_CX_nodes 1 ((some .int)) 0 := ⟨wd_454, wd_455, wd_1, wc_CX_nodes, ⟨by decide +kernel, by decide +kernel, by decide +kernel⟩⟩
def y_CX_nodeOf : MethodName := ⟨"CellMapper", "nodeOf", "(I)I"⟩
abbrev b_CX_nodeOf : ByteArray := prog_1_method_15_code
set_option maxRecDepth 20000 in
theorem wc_CX_nodeOf : Cond.code y_CX_nodeOf b_CX_nodeOf 3 ((some .int)) ∈ lw_g := List.mem_filter.mpr ⟨List.mem_append_right _ (List.mem_of_getElem? (i := 460) rfl), rfl⟩
theorem wd_458 : (Cond.instanceMethod ⟨"CellMapper", "nodeOf", "(I)I"⟩) ∈ lw_g := List.mem_filter.mpr ⟨List.mem_append_right _ (List.mem_of_getElem? (i := 458) (by decide +kernel)), rfl⟩
theorem wd_459 : (Cond.selects "CellMapper" ⟨"CellMapper", "nodeOf", "(I)I"⟩ ⟨"CellMapper", "nodeOf", "(I)I"⟩) ∈ lw_g := List.mem_filter.mpr ⟨List.mem_append_right _ (List.mem_of_getElem? (i := 459) (by decide +kernel)), rfl⟩
theorem fy_CX_nodeOf : zY y_CX_nodeOf b_CX_nodeOf 3 ((some .int)) 1 := ⟨wd_458, wd_459, wd_1, wc_CX_nodeOf, ⟨by decide +kernel, by decide +kernel, by decide +kernel⟩⟩
def y_CX_part : MethodName := ⟨"CellMapper", "part", "(II)I"⟩
abbrev b_CX_part : ByteArray := prog_1_method_16_code
set_option maxRecDepth 20000 in
theorem wc_CX_part : Cond.code y_CX_part b_CX_part 5 ((some .int)) ∈ lw_g := List.mem_filter.mpr ⟨List.mem_append_right _ (List.mem_of_getElem? (i := 464) rfl), rfl⟩
theorem wd_462 : (Cond.instanceMethod ⟨"CellMapper", "part", "(II)I"⟩) ∈ lw_g := List.mem_filter.mpr ⟨List.mem_append_right _ (List.mem_of_getElem? (i := 462) (by decide +kernel)), rfl⟩
theorem wd_463 : (Cond.selects "CellMapper" ⟨"CellMapper", "part", "(II)I"⟩ ⟨"CellMapper", "part", "(II)I"⟩) ∈ lw_g := List.mem_filter.mpr ⟨List.mem_append_right _ (List.mem_of_getElem? (i := 463) (by decide +kernel)), rfl⟩
theorem fy_CX_part : zY y_CX_part b_CX_part 5 ((some .int)) 2 := ⟨wd_462, wd_463, wd_1, wc_CX_part, ⟨by decide +kernel, by decide +kernel, by decide +kernel⟩⟩
def y_CX_map : MethodName := ⟨"CellMapper", "map", "()I"⟩
abbrev b_CX_map : ByteArray := prog_1_method_33_code
set_option maxRecDepth 20000 in
theorem wc_CX_map : Cond.code y_CX_map b_CX_map 1 ((some .int)) ∈ lw_g := List.mem_filter.mpr ⟨List.mem_append_right _ (List.mem_of_getElem? (i := 468) rfl), rfl⟩
theorem wd_466 : (Cond.instanceMethod ⟨"CellMapper", "map", "()I"⟩) ∈ lw_g := List.mem_filter.mpr ⟨List.mem_append_right _ (List.mem_of_getElem? (i := 466) (by decide +kernel)), rfl⟩
theorem wd_467 : (Cond.selects "CellMapper" ⟨"CellMapper", "map", "()I"⟩ ⟨"CellMapper", "map", "()I"⟩) ∈ lw_g := List.mem_filter.mpr ⟨List.mem_append_right _ (List.mem_of_getElem? (i := 467) (by decide +kernel)), rfl⟩
theorem fy_CX_map : zY y_CX_map b_CX_map 1 ((some .int)) 0 := ⟨wd_466, wd_467, wd_1, wc_CX_map, ⟨by decide +kernel, by decide +kernel, by decide +kernel⟩⟩
def y_CX_undriven : MethodName := ⟨"CellMapper", "undriven", "()Z"⟩
abbrev b_CX_undriven : ByteArray := prog_1_method_18_code
set_option maxRecDepth 20000 in
theorem wc_CX_undriven : Cond.code y_CX_undriven b_CX_undriven 3 ((some .boolean)) ∈ lw_g := List.mem_filter.mpr ⟨List.mem_append_right _ (List.mem_of_getElem? (i := 472) rfl), rfl⟩
theorem wd_471 : (Cond.instanceMethod ⟨"CellMapper", "undriven", "()Z"⟩) ∈ lw_g := List.mem_filter.mpr ⟨List.mem_append_right _ (List.mem_of_getElem? (i := 471) (by decide +kernel)), rfl⟩
theorem ws_CX_undriven : Cond.selects y_CX_undriven.cls y_CX_undriven y_CX_undriven ∈ lw_g := List.mem_filter.mpr ⟨List.mem_append_left _ (List.mem_of_getElem? (i := 7) (by decide +kernel)), rfl⟩
theorem fy_CX_undriven : zY y_CX_undriven b_CX_undriven 3 ((some .boolean)) 0 := ⟨wd_471, ws_CX_undriven, wd_1, wc_CX_undriven, ⟨by decide +kernel, by decide +kernel, by decide +kernel⟩⟩
def y_CX_ring : MethodName := ⟨"CellMapper", "ring", "()Z"⟩
abbrev b_CX_ring : ByteArray := prog_1_method_19_code
set_option maxRecDepth 20000 in
theorem wc_CX_ring : Cond.code y_CX_ring b_CX_ring 5 ((some .boolean)) ∈ lw_g := List.mem_filter.mpr ⟨List.mem_append_right _ (List.mem_of_getElem? (i := 476) rfl), rfl⟩
theorem wd_475 : (Cond.instanceMethod ⟨"CellMapper", "ring", "()Z"⟩) ∈ lw_g := List.mem_filter.mpr ⟨List.mem_append_right _ (List.mem_of_getElem? (i := 475) (by decide +kernel)), rfl⟩
theorem ws_CX_ring : Cond.selects y_CX_ring.cls y_CX_ring y_CX_ring ∈ lw_g := List.mem_filter.mpr ⟨List.mem_append_left _ (List.mem_of_getElem? (i := 8) (by decide +kernel)), rfl⟩
theorem fy_CX_ring : zY y_CX_ring b_CX_ring 5 ((some .boolean)) 0 := ⟨wd_475, ws_CX_ring, wd_1, wc_CX_ring, ⟨by decide +kernel, by decide +kernel, by decide +kernel⟩⟩
def y_CX_provided : MethodName := ⟨"CellMapper", "provided", "(I)Z"⟩
abbrev b_CX_provided : ByteArray := prog_1_method_17_code
set_option maxRecDepth 20000 in
theorem wc_CX_provided : Cond.code y_CX_provided b_CX_provided 4 ((some .boolean)) ∈ lw_g := List.mem_filter.mpr ⟨List.mem_append_right _ (List.mem_of_getElem? (i := 480) rfl), rfl⟩
theorem wd_479 : (Cond.instanceMethod ⟨"CellMapper", "provided", "(I)Z"⟩) ∈ lw_g := List.mem_filter.mpr ⟨List.mem_append_right _ (List.mem_of_getElem? (i := 479) (by decide +kernel)), rfl⟩
theorem ws_CX_provided : Cond.selects y_CX_provided.cls y_CX_provided y_CX_provided ∈ lw_g := List.mem_filter.mpr ⟨List.mem_append_left _ (List.mem_of_getElem? (i := 9) (by decide +kernel)), rfl⟩
theorem fy_CX_provided : zY y_CX_provided b_CX_provided 4 ((some .boolean)) 1 := ⟨wd_479, ws_CX_provided, wd_1, wc_CX_provided, ⟨by decide +kernel, by decide +kernel, by decide +kernel⟩⟩
def y_CX_cover : MethodName := ⟨"CellMapper", "cover", "()V"⟩
abbrev b_CX_cover : ByteArray := prog_1_method_21_code
set_option maxRecDepth 20000 in
theorem wc_CX_cover : Cond.code y_CX_cover b_CX_cover 3 ((none : Option ClassFile.FieldType)) ∈ lw_g := List.mem_filter.mpr ⟨List.mem_append_right _ (List.mem_of_getElem? (i := 484) rfl), rfl⟩
theorem wd_483 : (Cond.instanceMethod ⟨"CellMapper", "cover", "()V"⟩) ∈ lw_g := List.mem_filter.mpr ⟨List.mem_append_right _ (List.mem_of_getElem? (i := 483) (by decide +kernel)), rfl⟩
theorem ws_CX_cover : Cond.selects y_CX_cover.cls y_CX_cover y_CX_cover ∈ lw_g := List.mem_filter.mpr ⟨List.mem_append_left _ (List.mem_of_getElem? (i := 10) (by decide +kernel)), rfl⟩
theorem fy_CX_cover : zY y_CX_cover b_CX_cover 3 ((none : Option ClassFile.FieldType)) 0 := ⟨wd_483, ws_CX_cover, wd_1, wc_CX_cover, ⟨by decide +kernel, by decide +kernel, by decide +kernel⟩⟩
def y_KI_logic : MethodName := ⟨"CellMapper$Kind", "logic", "()Z"⟩
abbrev b_KI_logic : ByteArray := prog_6_method_4_code
set_option maxRecDepth 20000 in
theorem wc_KI_logic : Cond.code y_KI_logic b_KI_logic 1 ((some .boolean)) ∈ lw_g := List.mem_filter.mpr ⟨List.mem_append_right _ (List.mem_of_getElem? (i := 488) rfl), rfl⟩
theorem wd_486 : (Cond.instanceMethod ⟨"CellMapper$Kind", "logic", "()Z"⟩) ∈ lw_g := List.mem_filter.mpr ⟨List.mem_append_right _ (List.mem_of_getElem? (i := 486) (by decide +kernel)), rfl⟩
theorem wd_9 : (Cond.initialized "CellMapper$Kind") ∈ lw_g := List.mem_filter.mpr ⟨List.mem_append_right _ (List.mem_of_getElem? (i := 9) (by decide +kernel)), rfl⟩
theorem wd_487 : (Cond.selects "CellMapper$Kind" ⟨"CellMapper$Kind", "logic", "()Z"⟩ ⟨"CellMapper$Kind", "logic", "()Z"⟩) ∈ lw_g := List.mem_filter.mpr ⟨List.mem_append_right _ (List.mem_of_getElem? (i := 487) (by decide +kernel)), rfl⟩
theorem fy_KI_logic : zY y_KI_logic b_KI_logic 1 ((some .boolean)) 0 := ⟨wd_486, wd_487, wd_9, wc_KI_logic, ⟨by decide +kernel, by decide +kernel, by decide +kernel⟩⟩
def y_CX_use : MethodName := ⟨"CellMapper", "use", "(LCellMapper$Node;)V"⟩
abbrev b_CX_use : ByteArray := prog_1_method_20_code
set_option maxRecDepth 20000 in
theorem wc_CX_use : Cond.code y_CX_use b_CX_use 1 ((none : Option ClassFile.FieldType)) ∈ lw_g := List.mem_filter.mpr ⟨List.mem_append_right _ (List.mem_of_getElem? (i := 491) rfl), rfl⟩
theorem wd_490 : (Cond.static ⟨"CellMapper", "use", "(LCellMapper$Node;)V"⟩) ∈ lw_g := List.mem_filter.mpr ⟨List.mem_append_right _ (List.mem_of_getElem? (i := 490) (by decide +kernel)), rfl⟩
theorem fs_CX_use : zYs y_CX_use b_CX_use 1 ((none : Option ClassFile.FieldType)) 1 := ⟨wd_490, wd_1, wc_CX_use, ⟨by decide +kernel, by decide +kernel, by decide +kernel⟩⟩
def y_CX_choose : MethodName := ⟨"CellMapper", "choose", "(LCellMapper$Node;)V"⟩
abbrev b_CX_choose : ByteArray := prog_1_method_22_code
set_option maxRecDepth 20000 in
theorem wc_CX_choose : Cond.code y_CX_choose b_CX_choose 5 ((none : Option ClassFile.FieldType)) ∈ lw_g := List.mem_filter.mpr ⟨List.mem_append_right _ (List.mem_of_getElem? (i := 495) rfl), rfl⟩
theorem wd_494 : (Cond.instanceMethod ⟨"CellMapper", "choose", "(LCellMapper$Node;)V"⟩) ∈ lw_g := List.mem_filter.mpr ⟨List.mem_append_right _ (List.mem_of_getElem? (i := 494) (by decide +kernel)), rfl⟩
theorem ws_CX_choose : Cond.selects y_CX_choose.cls y_CX_choose y_CX_choose ∈ lw_g := List.mem_filter.mpr ⟨List.mem_append_left _ (List.mem_of_getElem? (i := 11) (by decide +kernel)), rfl⟩
theorem fy_CX_choose : zY y_CX_choose b_CX_choose 5 ((none : Option ClassFile.FieldType)) 1 := ⟨wd_494, ws_CX_choose, wd_1, wc_CX_choose, ⟨by decide +kernel, by decide +kernel, by decide +kernel⟩⟩
def y_IN_lay : MethodName := ⟨"CellMapper$Inv", "lay", "(LCellMapper$Node;Z)I"⟩
abbrev b_IN_lay : ByteArray := prog_5_method_2_code
set_option maxRecDepth 20000 in
theorem wc_IN_lay : Cond.code y_IN_lay b_IN_lay 3 ((some .int)) ∈ lw_g := List.mem_filter.mpr ⟨List.mem_append_right _ (List.mem_of_getElem? (i := 506) rfl), rfl⟩
theorem wd_504 : (Cond.instanceMethod ⟨"CellMapper$Inv", "lay", "(LCellMapper$Node;Z)I"⟩) ∈ lw_g := List.mem_filter.mpr ⟨List.mem_append_right _ (List.mem_of_getElem? (i := 504) (by decide +kernel)), rfl⟩
def y_ND_root : MethodName := ⟨"CellMapper$Node", "root", "()Z"⟩
abbrev b_ND_root : ByteArray := prog_8_method_2_code
set_option maxRecDepth 20000 in
theorem wc_ND_root : Cond.code y_ND_root b_ND_root 1 ((some .boolean)) ∈ lw_g := List.mem_filter.mpr ⟨List.mem_append_right _ (List.mem_of_getElem? (i := 511) rfl), rfl⟩
theorem wd_509 : (Cond.instanceMethod ⟨"CellMapper$Node", "root", "()Z"⟩) ∈ lw_g := List.mem_filter.mpr ⟨List.mem_append_right _ (List.mem_of_getElem? (i := 509) (by decide +kernel)), rfl⟩
theorem wd_510 : (Cond.selects "CellMapper$Node" ⟨"CellMapper$Node", "root", "()Z"⟩ ⟨"CellMapper$Node", "root", "()Z"⟩) ∈ lw_g := List.mem_filter.mpr ⟨List.mem_append_right _ (List.mem_of_getElem? (i := 510) (by decide +kernel)), rfl⟩
theorem fy_ND_root : zY y_ND_root b_ND_root 1 ((some .boolean)) 0 := ⟨wd_509, wd_510, wd_10, wc_ND_root, ⟨by decide +kernel, by decide +kernel, by decide +kernel⟩⟩
def y_NA_lay : MethodName := ⟨"CellMapper$Nand", "lay", "(LCellMapper$Node;Z)I"⟩
abbrev b_NA_lay : ByteArray := prog_7_method_4_code
set_option maxRecDepth 20000 in
theorem wc_NA_lay : Cond.code y_NA_lay b_NA_lay 3 ((some .int)) ∈ lw_g := List.mem_filter.mpr ⟨List.mem_append_right _ (List.mem_of_getElem? (i := 521) rfl), rfl⟩
theorem wd_519 : (Cond.instanceMethod ⟨"CellMapper$Nand", "lay", "(LCellMapper$Node;Z)I"⟩) ∈ lw_g := List.mem_filter.mpr ⟨List.mem_append_right _ (List.mem_of_getElem? (i := 519) (by decide +kernel)), rfl⟩
def y_NA_straight : MethodName := ⟨"CellMapper$Nand", "straight", "(LCellMapper$Node;)I"⟩
abbrev b_NA_straight : ByteArray := prog_7_method_2_code
set_option maxRecDepth 20000 in
theorem wc_NA_straight : Cond.code y_NA_straight b_NA_straight 2 ((some .int)) ∈ lw_g := List.mem_filter.mpr ⟨List.mem_append_right _ (List.mem_of_getElem? (i := 528) rfl), rfl⟩
theorem wd_527 : (Cond.instanceMethod ⟨"CellMapper$Nand", "straight", "(LCellMapper$Node;)I"⟩) ∈ lw_g := List.mem_filter.mpr ⟨List.mem_append_right _ (List.mem_of_getElem? (i := 527) (by decide +kernel)), rfl⟩
theorem ws_NA_straight : Cond.selects y_NA_straight.cls y_NA_straight y_NA_straight ∈ lw_g := List.mem_filter.mpr ⟨List.mem_append_left _ (List.mem_of_getElem? (i := 12) (by decide +kernel)), rfl⟩
theorem fy_NA_straight : zY y_NA_straight b_NA_straight 2 ((some .int)) 1 := ⟨wd_527, ws_NA_straight, wd_20, wc_NA_straight, ⟨by decide +kernel, by decide +kernel, by decide +kernel⟩⟩
def y_PI_lay : MethodName := ⟨"CellMapper$Pin", "lay", "(LCellMapper$Node;Z)I"⟩
abbrev b_PI_lay : ByteArray := prog_10_method_2_code
set_option maxRecDepth 20000 in
theorem wc_PI_lay : Cond.code y_PI_lay b_PI_lay 3 ((some .int)) ∈ lw_g := List.mem_filter.mpr ⟨List.mem_append_right _ (List.mem_of_getElem? (i := 536) rfl), rfl⟩
theorem wd_534 : (Cond.instanceMethod ⟨"CellMapper$Pin", "lay", "(LCellMapper$Node;Z)I"⟩) ∈ lw_g := List.mem_filter.mpr ⟨List.mem_append_right _ (List.mem_of_getElem? (i := 534) (by decide +kernel)), rfl⟩
def y_ND_inner : MethodName := ⟨"CellMapper$Node", "inner", "()Z"⟩
abbrev b_ND_inner : ByteArray := prog_8_method_3_code
set_option maxRecDepth 20000 in
theorem wc_ND_inner : Cond.code y_ND_inner b_ND_inner 1 ((some .boolean)) ∈ lw_g := List.mem_filter.mpr ⟨List.mem_append_right _ (List.mem_of_getElem? (i := 540) rfl), rfl⟩
theorem wd_538 : (Cond.instanceMethod ⟨"CellMapper$Node", "inner", "()Z"⟩) ∈ lw_g := List.mem_filter.mpr ⟨List.mem_append_right _ (List.mem_of_getElem? (i := 538) (by decide +kernel)), rfl⟩
theorem wd_539 : (Cond.selects "CellMapper$Node" ⟨"CellMapper$Node", "inner", "()Z"⟩ ⟨"CellMapper$Node", "inner", "()Z"⟩) ∈ lw_g := List.mem_filter.mpr ⟨List.mem_append_right _ (List.mem_of_getElem? (i := 539) (by decide +kernel)), rfl⟩
theorem fy_ND_inner : zY y_ND_inner b_ND_inner 1 ((some .boolean)) 0 := ⟨wd_538, wd_539, wd_10, wc_ND_inner, ⟨by decide +kernel, by decide +kernel, by decide +kernel⟩⟩
def y_NA_swapped : MethodName := ⟨"CellMapper$Nand", "swapped", "(LCellMapper$Node;)I"⟩
abbrev b_NA_swapped : ByteArray := prog_7_method_3_code
set_option maxRecDepth 20000 in
theorem wc_NA_swapped : Cond.code y_NA_swapped b_NA_swapped 2 ((some .int)) ∈ lw_g := List.mem_filter.mpr ⟨List.mem_append_right _ (List.mem_of_getElem? (i := 546) rfl), rfl⟩
theorem wd_545 : (Cond.instanceMethod ⟨"CellMapper$Nand", "swapped", "(LCellMapper$Node;)I"⟩) ∈ lw_g := List.mem_filter.mpr ⟨List.mem_append_right _ (List.mem_of_getElem? (i := 545) (by decide +kernel)), rfl⟩
theorem ws_NA_swapped : Cond.selects y_NA_swapped.cls y_NA_swapped y_NA_swapped ∈ lw_g := List.mem_filter.mpr ⟨List.mem_append_left _ (List.mem_of_getElem? (i := 13) (by decide +kernel)), rfl⟩
theorem fy_NA_swapped : zY y_NA_swapped b_NA_swapped 2 ((some .int)) 1 := ⟨wd_545, ws_NA_swapped, wd_20, wc_NA_swapped, ⟨by decide +kernel, by decide +kernel, by decide +kernel⟩⟩
def y_CX_connect : MethodName := ⟨"CellMapper", "connect", "()V"⟩
abbrev b_CX_connect : ByteArray := prog_1_method_23_code
set_option maxRecDepth 20000 in
theorem wc_CX_connect : Cond.code y_CX_connect b_CX_connect 4 ((none : Option ClassFile.FieldType)) ∈ lw_g := List.mem_filter.mpr ⟨List.mem_append_right _ (List.mem_of_getElem? (i := 551) rfl), rfl⟩
theorem wd_550 : (Cond.instanceMethod ⟨"CellMapper", "connect", "()V"⟩) ∈ lw_g := List.mem_filter.mpr ⟨List.mem_append_right _ (List.mem_of_getElem? (i := 550) (by decide +kernel)), rfl⟩
theorem ws_CX_connect : Cond.selects y_CX_connect.cls y_CX_connect y_CX_connect ∈ lw_g := List.mem_filter.mpr ⟨List.mem_append_left _ (List.mem_of_getElem? (i := 14) (by decide +kernel)), rfl⟩
theorem fy_CX_connect : zY y_CX_connect b_CX_connect 4 ((none : Option ClassFile.FieldType)) 0 := ⟨wd_550, ws_CX_connect, wd_1, wc_CX_connect, ⟨by decide +kernel, by decide +kernel, by decide +kernel⟩⟩
def y_IN_bind : MethodName := ⟨"CellMapper$Inv", "bind", "(LCellMapper$Node;[LCellMapper$Node;I)V"⟩
abbrev b_IN_bind : ByteArray := prog_5_method_3_code
set_option maxRecDepth 20000 in
theorem wc_IN_bind : Cond.code y_IN_bind b_IN_bind 4 ((none : Option ClassFile.FieldType)) ∈ lw_g := List.mem_filter.mpr ⟨List.mem_append_right _ (List.mem_of_getElem? (i := 561) rfl), rfl⟩
theorem wd_559 : (Cond.instanceMethod ⟨"CellMapper$Inv", "bind", "(LCellMapper$Node;[LCellMapper$Node;I)V"⟩) ∈ lw_g := List.mem_filter.mpr ⟨List.mem_append_right _ (List.mem_of_getElem? (i := 559) (by decide +kernel)), rfl⟩
def y_NA_bind : MethodName := ⟨"CellMapper$Nand", "bind", "(LCellMapper$Node;[LCellMapper$Node;I)V"⟩
abbrev b_NA_bind : ByteArray := prog_7_method_5_code
set_option maxRecDepth 20000 in
theorem wc_NA_bind : Cond.code y_NA_bind b_NA_bind 5 ((none : Option ClassFile.FieldType)) ∈ lw_g := List.mem_filter.mpr ⟨List.mem_append_right _ (List.mem_of_getElem? (i := 568) rfl), rfl⟩
theorem wd_566 : (Cond.instanceMethod ⟨"CellMapper$Nand", "bind", "(LCellMapper$Node;[LCellMapper$Node;I)V"⟩) ∈ lw_g := List.mem_filter.mpr ⟨List.mem_append_right _ (List.mem_of_getElem? (i := 566) (by decide +kernel)), rfl⟩
def y_PI_bind : MethodName := ⟨"CellMapper$Pin", "bind", "(LCellMapper$Node;[LCellMapper$Node;I)V"⟩
abbrev b_PI_bind : ByteArray := prog_10_method_3_code
set_option maxRecDepth 20000 in
theorem wc_PI_bind : Cond.code y_PI_bind b_PI_bind 4 ((none : Option ClassFile.FieldType)) ∈ lw_g := List.mem_filter.mpr ⟨List.mem_append_right _ (List.mem_of_getElem? (i := 575) rfl), rfl⟩
theorem wd_573 : (Cond.instanceMethod ⟨"CellMapper$Pin", "bind", "(LCellMapper$Node;[LCellMapper$Node;I)V"⟩) ∈ lw_g := List.mem_filter.mpr ⟨List.mem_append_right _ (List.mem_of_getElem? (i := 573) (by decide +kernel)), rfl⟩
def y_CX_trace : MethodName := ⟨"CellMapper", "trace", "(I)V"⟩
abbrev b_CX_trace : ByteArray := prog_1_method_24_code
set_option maxRecDepth 20000 in
theorem wc_CX_trace : Cond.code y_CX_trace b_CX_trace 3 ((none : Option ClassFile.FieldType)) ∈ lw_g := List.mem_filter.mpr ⟨List.mem_append_right _ (List.mem_of_getElem? (i := 580) rfl), rfl⟩
theorem wd_579 : (Cond.instanceMethod ⟨"CellMapper", "trace", "(I)V"⟩) ∈ lw_g := List.mem_filter.mpr ⟨List.mem_append_right _ (List.mem_of_getElem? (i := 579) (by decide +kernel)), rfl⟩
theorem ws_CX_trace : Cond.selects y_CX_trace.cls y_CX_trace y_CX_trace ∈ lw_g := List.mem_filter.mpr ⟨List.mem_append_left _ (List.mem_of_getElem? (i := 15) (by decide +kernel)), rfl⟩
theorem fy_CX_trace : zY y_CX_trace b_CX_trace 3 ((none : Option ClassFile.FieldType)) 1 := ⟨wd_579, ws_CX_trace, wd_1, wc_CX_trace, ⟨by decide +kernel, by decide +kernel, by decide +kernel⟩⟩
def y_CX_retime : MethodName := ⟨"CellMapper", "retime", "()V"⟩
abbrev b_CX_retime : ByteArray := prog_1_method_30_code
set_option maxRecDepth 20000 in
theorem wc_CX_retime : Cond.code y_CX_retime b_CX_retime 8 ((none : Option ClassFile.FieldType)) ∈ lw_g := List.mem_filter.mpr ⟨List.mem_append_right _ (List.mem_of_getElem? (i := 584) rfl), rfl⟩
theorem wd_583 : (Cond.instanceMethod ⟨"CellMapper", "retime", "()V"⟩) ∈ lw_g := List.mem_filter.mpr ⟨List.mem_append_right _ (List.mem_of_getElem? (i := 583) (by decide +kernel)), rfl⟩
theorem ws_CX_retime : Cond.selects y_CX_retime.cls y_CX_retime y_CX_retime ∈ lw_g := List.mem_filter.mpr ⟨List.mem_append_left _ (List.mem_of_getElem? (i := 16) (by decide +kernel)), rfl⟩
theorem fy_CX_retime : zY y_CX_retime b_CX_retime 8 ((none : Option ClassFile.FieldType)) 0 := ⟨wd_583, ws_CX_retime, wd_1, wc_CX_retime, ⟨by decide +kernel, by decide +kernel, by decide +kernel⟩⟩
def y_CX_ways : MethodName := ⟨"CellMapper", "ways", "()I"⟩
abbrev b_CX_ways : ByteArray := prog_1_method_27_code
set_option maxRecDepth 20000 in
theorem wc_CX_ways : Cond.code y_CX_ways b_CX_ways 7 ((some .int)) ∈ lw_g := List.mem_filter.mpr ⟨List.mem_append_right _ (List.mem_of_getElem? (i := 588) rfl), rfl⟩
theorem wd_587 : (Cond.instanceMethod ⟨"CellMapper", "ways", "()I"⟩) ∈ lw_g := List.mem_filter.mpr ⟨List.mem_append_right _ (List.mem_of_getElem? (i := 587) (by decide +kernel)), rfl⟩
theorem ws_CX_ways : Cond.selects y_CX_ways.cls y_CX_ways y_CX_ways ∈ lw_g := List.mem_filter.mpr ⟨List.mem_append_left _ (List.mem_of_getElem? (i := 17) (by decide +kernel)), rfl⟩
theorem fy_CX_ways : zY y_CX_ways b_CX_ways 7 ((some .int)) 0 := ⟨wd_587, ws_CX_ways, wd_1, wc_CX_ways, ⟨by decide +kernel, by decide +kernel, by decide +kernel⟩⟩
def y_CX_left : MethodName := ⟨"CellMapper", "left", "(I)I"⟩
abbrev b_CX_left : ByteArray := prog_1_method_26_code
set_option maxRecDepth 20000 in
theorem wc_CX_left : Cond.code y_CX_left b_CX_left 4 ((some .int)) ∈ lw_g := List.mem_filter.mpr ⟨List.mem_append_right _ (List.mem_of_getElem? (i := 592) rfl), rfl⟩
theorem wd_591 : (Cond.instanceMethod ⟨"CellMapper", "left", "(I)I"⟩) ∈ lw_g := List.mem_filter.mpr ⟨List.mem_append_right _ (List.mem_of_getElem? (i := 591) (by decide +kernel)), rfl⟩
theorem ws_CX_left : Cond.selects y_CX_left.cls y_CX_left y_CX_left ∈ lw_g := List.mem_filter.mpr ⟨List.mem_append_left _ (List.mem_of_getElem? (i := 18) (by decide +kernel)), rfl⟩
theorem fy_CX_left : zY y_CX_left b_CX_left 4 ((some .int)) 1 := ⟨wd_591, ws_CX_left, wd_1, wc_CX_left, ⟨by decide +kernel, by decide +kernel, by decide +kernel⟩⟩
def y_CX_sink : MethodName := ⟨"CellMapper", "sink", "(I)LCellMapper$Node;"⟩
abbrev b_CX_sink : ByteArray := prog_1_method_25_code
set_option maxRecDepth 20000 in
theorem wc_CX_sink : Cond.code y_CX_sink b_CX_sink 2 ((some (.object "CellMapper$Node"))) ∈ lw_g := List.mem_filter.mpr ⟨List.mem_append_right _ (List.mem_of_getElem? (i := 596) rfl), rfl⟩
theorem wd_595 : (Cond.instanceMethod ⟨"CellMapper", "sink", "(I)LCellMapper$Node;"⟩) ∈ lw_g := List.mem_filter.mpr ⟨List.mem_append_right _ (List.mem_of_getElem? (i := 595) (by decide +kernel)), rfl⟩
theorem ws_CX_sink : Cond.selects y_CX_sink.cls y_CX_sink y_CX_sink ∈ lw_g := List.mem_filter.mpr ⟨List.mem_append_left _ (List.mem_of_getElem? (i := 19) (by decide +kernel)), rfl⟩
theorem fy_CX_sink : zY y_CX_sink b_CX_sink 2 ((some (.object "CellMapper$Node"))) 1 := ⟨wd_595, ws_CX_sink, wd_1, wc_CX_sink, ⟨by decide +kernel, by decide +kernel, by decide +kernel⟩⟩
def y_CX_reachable : MethodName := ⟨"CellMapper", "reachable", "(I)Z"⟩
abbrev b_CX_reachable : ByteArray := prog_1_method_29_code
set_option maxRecDepth 20000 in
theorem wc_CX_reachable : Cond.code y_CX_reachable b_CX_reachable 5 ((some .boolean)) ∈ lw_g := List.mem_filter.mpr ⟨List.mem_append_right _ (List.mem_of_getElem? (i := 601) rfl), rfl⟩
theorem wd_600 : (Cond.instanceMethod ⟨"CellMapper", "reachable", "(I)Z"⟩) ∈ lw_g := List.mem_filter.mpr ⟨List.mem_append_right _ (List.mem_of_getElem? (i := 600) (by decide +kernel)), rfl⟩
theorem ws_CX_reachable : Cond.selects y_CX_reachable.cls y_CX_reachable y_CX_reachable ∈ lw_g := List.mem_filter.mpr ⟨List.mem_append_left _ (List.mem_of_getElem? (i := 20) (by decide +kernel)), rfl⟩
theorem fy_CX_reachable : zY y_CX_reachable b_CX_reachable 5 ((some .boolean)) 1 := ⟨wd_600, ws_CX_reachable, wd_1, wc_CX_reachable, ⟨by decide +kernel, by decide +kernel, by decide +kernel⟩⟩
def y_CX_lacking : MethodName := ⟨"CellMapper", "lacking", "()Z"⟩
abbrev b_CX_lacking : ByteArray := prog_1_method_28_code
set_option maxRecDepth 20000 in
theorem wc_CX_lacking : Cond.code y_CX_lacking b_CX_lacking 2 ((some .boolean)) ∈ lw_g := List.mem_filter.mpr ⟨List.mem_append_right _ (List.mem_of_getElem? (i := 605) rfl), rfl⟩
theorem wd_604 : (Cond.instanceMethod ⟨"CellMapper", "lacking", "()Z"⟩) ∈ lw_g := List.mem_filter.mpr ⟨List.mem_append_right _ (List.mem_of_getElem? (i := 604) (by decide +kernel)), rfl⟩
theorem ws_CX_lacking : Cond.selects y_CX_lacking.cls y_CX_lacking y_CX_lacking ∈ lw_g := List.mem_filter.mpr ⟨List.mem_append_left _ (List.mem_of_getElem? (i := 21) (by decide +kernel)), rfl⟩
theorem fy_CX_lacking : zY y_CX_lacking b_CX_lacking 2 ((some .boolean)) 0 := ⟨wd_604, ws_CX_lacking, wd_1, wc_CX_lacking, ⟨by decide +kernel, by decide +kernel, by decide +kernel⟩⟩
def y_CX_movable : MethodName := ⟨"CellMapper", "movable", "(LCellMapper$Node;)Z"⟩
abbrev b_CX_movable : ByteArray := prog_1_method_31_code
set_option maxRecDepth 20000 in
theorem wc_CX_movable : Cond.code y_CX_movable b_CX_movable 4 ((some .boolean)) ∈ lw_g := List.mem_filter.mpr ⟨List.mem_append_right _ (List.mem_of_getElem? (i := 609) rfl), rfl⟩
theorem wd_608 : (Cond.instanceMethod ⟨"CellMapper", "movable", "(LCellMapper$Node;)Z"⟩) ∈ lw_g := List.mem_filter.mpr ⟨List.mem_append_right _ (List.mem_of_getElem? (i := 608) (by decide +kernel)), rfl⟩
theorem ws_CX_movable : Cond.selects y_CX_movable.cls y_CX_movable y_CX_movable ∈ lw_g := List.mem_filter.mpr ⟨List.mem_append_left _ (List.mem_of_getElem? (i := 22) (by decide +kernel)), rfl⟩
theorem fy_CX_movable : zY y_CX_movable b_CX_movable 4 ((some .boolean)) 1 := ⟨wd_608, ws_CX_movable, wd_1, wc_CX_movable, ⟨by decide +kernel, by decide +kernel, by decide +kernel⟩⟩
def y_CX_move : MethodName := ⟨"CellMapper", "move", "(LCellMapper$Node;)V"⟩
abbrev b_CX_move : ByteArray := prog_1_method_32_code
set_option maxRecDepth 20000 in
theorem wc_CX_move : Cond.code y_CX_move b_CX_move 5 ((none : Option ClassFile.FieldType)) ∈ lw_g := List.mem_filter.mpr ⟨List.mem_append_right _ (List.mem_of_getElem? (i := 613) rfl), rfl⟩
theorem wd_612 : (Cond.instanceMethod ⟨"CellMapper", "move", "(LCellMapper$Node;)V"⟩) ∈ lw_g := List.mem_filter.mpr ⟨List.mem_append_right _ (List.mem_of_getElem? (i := 612) (by decide +kernel)), rfl⟩
theorem ws_CX_move : Cond.selects y_CX_move.cls y_CX_move y_CX_move ∈ lw_g := List.mem_filter.mpr ⟨List.mem_append_left _ (List.mem_of_getElem? (i := 23) (by decide +kernel)), rfl⟩
theorem fy_CX_move : zY y_CX_move b_CX_move 5 ((none : Option ClassFile.FieldType)) 1 := ⟨wd_612, ws_CX_move, wd_1, wc_CX_move, ⟨by decide +kernel, by decide +kernel, by decide +kernel⟩⟩
def y_IN_value : MethodName := ⟨"CellMapper$Inv", "value", "(I)I"⟩
abbrev b_IN_value : ByteArray := prog_5_method_4_code
set_option maxRecDepth 20000 in
theorem wc_IN_value : Cond.code y_IN_value b_IN_value 2 ((some .int)) ∈ lw_g := List.mem_filter.mpr ⟨List.mem_append_right _ (List.mem_of_getElem? (i := 622) rfl), rfl⟩
theorem wd_620 : (Cond.instanceMethod ⟨"CellMapper$Inv", "value", "(I)I"⟩) ∈ lw_g := List.mem_filter.mpr ⟨List.mem_append_right _ (List.mem_of_getElem? (i := 620) (by decide +kernel)), rfl⟩
def y_NA_value : MethodName := ⟨"CellMapper$Nand", "value", "(I)I"⟩
abbrev b_NA_value : ByteArray := prog_7_method_6_code
set_option maxRecDepth 20000 in
theorem wc_NA_value : Cond.code y_NA_value b_NA_value 2 ((some .int)) ∈ lw_g := List.mem_filter.mpr ⟨List.mem_append_right _ (List.mem_of_getElem? (i := 629) rfl), rfl⟩
theorem wd_627 : (Cond.instanceMethod ⟨"CellMapper$Nand", "value", "(I)I"⟩) ∈ lw_g := List.mem_filter.mpr ⟨List.mem_append_right _ (List.mem_of_getElem? (i := 627) (by decide +kernel)), rfl⟩
def y_PI_value : MethodName := ⟨"CellMapper$Pin", "value", "(I)I"⟩
abbrev b_PI_value : ByteArray := prog_10_method_4_code
set_option maxRecDepth 20000 in
theorem wc_PI_value : Cond.code y_PI_value b_PI_value 2 ((some .int)) ∈ lw_g := List.mem_filter.mpr ⟨List.mem_append_right _ (List.mem_of_getElem? (i := 636) rfl), rfl⟩
theorem wd_634 : (Cond.instanceMethod ⟨"CellMapper$Pin", "value", "(I)I"⟩) ∈ lw_g := List.mem_filter.mpr ⟨List.mem_append_right _ (List.mem_of_getElem? (i := 634) (by decide +kernel)), rfl⟩
def y_CX_restart : MethodName := ⟨"CellMapper", "restart", "()V"⟩
abbrev b_CX_restart : ByteArray := prog_1_method_34_code
set_option maxRecDepth 20000 in
theorem wc_CX_restart : Cond.code y_CX_restart b_CX_restart 1 ((none : Option ClassFile.FieldType)) ∈ lw_g := List.mem_filter.mpr ⟨List.mem_append_right _ (List.mem_of_getElem? (i := 640) rfl), rfl⟩
theorem wd_639 : (Cond.instanceMethod ⟨"CellMapper", "restart", "()V"⟩) ∈ lw_g := List.mem_filter.mpr ⟨List.mem_append_right _ (List.mem_of_getElem? (i := 639) (by decide +kernel)), rfl⟩
theorem ws_CX_restart : Cond.selects y_CX_restart.cls y_CX_restart y_CX_restart ∈ lw_g := List.mem_filter.mpr ⟨List.mem_append_left _ (List.mem_of_getElem? (i := 24) (by decide +kernel)), rfl⟩
theorem fy_CX_restart : zY y_CX_restart b_CX_restart 1 ((none : Option ClassFile.FieldType)) 0 := ⟨wd_639, ws_CX_restart, wd_1, wc_CX_restart, ⟨by decide +kernel, by decide +kernel, by decide +kernel⟩⟩
def y_CX_area : MethodName := ⟨"CellMapper", "area", "()I"⟩
abbrev b_CX_area : ByteArray := prog_1_method_35_code
set_option maxRecDepth 20000 in
theorem wc_CX_area : Cond.code y_CX_area b_CX_area 1 ((some .int)) ∈ lw_g := List.mem_filter.mpr ⟨List.mem_append_right _ (List.mem_of_getElem? (i := 645) rfl), rfl⟩
theorem wd_643 : (Cond.instanceMethod ⟨"CellMapper", "area", "()I"⟩) ∈ lw_g := List.mem_filter.mpr ⟨List.mem_append_right _ (List.mem_of_getElem? (i := 643) (by decide +kernel)), rfl⟩
theorem wd_644 : (Cond.selects "CellMapper" ⟨"CellMapper", "area", "()I"⟩ ⟨"CellMapper", "area", "()I"⟩) ∈ lw_g := List.mem_filter.mpr ⟨List.mem_append_right _ (List.mem_of_getElem? (i := 644) (by decide +kernel)), rfl⟩
theorem fy_CX_area : zY y_CX_area b_CX_area 1 ((some .int)) 0 := ⟨wd_643, wd_644, wd_1, wc_CX_area, ⟨by decide +kernel, by decide +kernel, by decide +kernel⟩⟩
def y_CX_cellAt : MethodName := ⟨"CellMapper", "cellAt", "(I)I"⟩
abbrev b_CX_cellAt : ByteArray := prog_1_method_37_code
set_option maxRecDepth 20000 in
theorem wc_CX_cellAt : Cond.code y_CX_cellAt b_CX_cellAt 3 ((some .int)) ∈ lw_g := List.mem_filter.mpr ⟨List.mem_append_right _ (List.mem_of_getElem? (i := 649) rfl), rfl⟩
theorem wd_647 : (Cond.instanceMethod ⟨"CellMapper", "cellAt", "(I)I"⟩) ∈ lw_g := List.mem_filter.mpr ⟨List.mem_append_right _ (List.mem_of_getElem? (i := 647) (by decide +kernel)), rfl⟩
theorem wd_648 : (Cond.selects "CellMapper" ⟨"CellMapper", "cellAt", "(I)I"⟩ ⟨"CellMapper", "cellAt", "(I)I"⟩) ∈ lw_g := List.mem_filter.mpr ⟨List.mem_append_right _ (List.mem_of_getElem? (i := 648) (by decide +kernel)), rfl⟩
theorem fy_CX_cellAt : zY y_CX_cellAt b_CX_cellAt 3 ((some .int)) 1 := ⟨wd_647, wd_648, wd_1, wc_CX_cellAt, ⟨by decide +kernel, by decide +kernel, by decide +kernel⟩⟩
def y_CX_gateAt : MethodName := ⟨"CellMapper", "gateAt", "(I)LCellMapper$Node;"⟩
abbrev b_CX_gateAt : ByteArray := prog_1_method_36_code
set_option maxRecDepth 20000 in
theorem wc_CX_gateAt : Cond.code y_CX_gateAt b_CX_gateAt 3 ((some (.object "CellMapper$Node"))) ∈ lw_g := List.mem_filter.mpr ⟨List.mem_append_right _ (List.mem_of_getElem? (i := 653) rfl), rfl⟩
theorem wd_652 : (Cond.instanceMethod ⟨"CellMapper", "gateAt", "(I)LCellMapper$Node;"⟩) ∈ lw_g := List.mem_filter.mpr ⟨List.mem_append_right _ (List.mem_of_getElem? (i := 652) (by decide +kernel)), rfl⟩
theorem ws_CX_gateAt : Cond.selects y_CX_gateAt.cls y_CX_gateAt y_CX_gateAt ∈ lw_g := List.mem_filter.mpr ⟨List.mem_append_left _ (List.mem_of_getElem? (i := 25) (by decide +kernel)), rfl⟩
theorem fy_CX_gateAt : zY y_CX_gateAt b_CX_gateAt 3 ((some (.object "CellMapper$Node"))) 1 := ⟨wd_652, ws_CX_gateAt, wd_1, wc_CX_gateAt, ⟨by decide +kernel, by decide +kernel, by decide +kernel⟩⟩
def y_CX_period : MethodName := ⟨"CellMapper", "period", "()I"⟩
abbrev b_CX_period : ByteArray := prog_1_method_38_code
set_option maxRecDepth 20000 in
theorem wc_CX_period : Cond.code y_CX_period b_CX_period 1 ((some .int)) ∈ lw_g := List.mem_filter.mpr ⟨List.mem_append_right _ (List.mem_of_getElem? (i := 657) rfl), rfl⟩
theorem wd_655 : (Cond.instanceMethod ⟨"CellMapper", "period", "()I"⟩) ∈ lw_g := List.mem_filter.mpr ⟨List.mem_append_right _ (List.mem_of_getElem? (i := 655) (by decide +kernel)), rfl⟩
theorem wd_656 : (Cond.selects "CellMapper" ⟨"CellMapper", "period", "()I"⟩ ⟨"CellMapper", "period", "()I"⟩) ∈ lw_g := List.mem_filter.mpr ⟨List.mem_append_right _ (List.mem_of_getElem? (i := 656) (by decide +kernel)), rfl⟩
theorem fy_CX_period : zY y_CX_period b_CX_period 1 ((some .int)) 0 := ⟨wd_655, wd_656, wd_1, wc_CX_period, ⟨by decide +kernel, by decide +kernel, by decide +kernel⟩⟩
def y_CX_shortest : MethodName := ⟨"CellMapper", "shortest", "()I"⟩
abbrev b_CX_shortest : ByteArray := prog_1_method_39_code
set_option maxRecDepth 20000 in
theorem wc_CX_shortest : Cond.code y_CX_shortest b_CX_shortest 1 ((some .int)) ∈ lw_g := List.mem_filter.mpr ⟨List.mem_append_right _ (List.mem_of_getElem? (i := 661) rfl), rfl⟩
theorem wd_659 : (Cond.instanceMethod ⟨"CellMapper", "shortest", "()I"⟩) ∈ lw_g := List.mem_filter.mpr ⟨List.mem_append_right _ (List.mem_of_getElem? (i := 659) (by decide +kernel)), rfl⟩
theorem wd_660 : (Cond.selects "CellMapper" ⟨"CellMapper", "shortest", "()I"⟩ ⟨"CellMapper", "shortest", "()I"⟩) ∈ lw_g := List.mem_filter.mpr ⟨List.mem_append_right _ (List.mem_of_getElem? (i := 660) (by decide +kernel)), rfl⟩
theorem fy_CX_shortest : zY y_CX_shortest b_CX_shortest 1 ((some .int)) 0 := ⟨wd_659, wd_660, wd_1, wc_CX_shortest, ⟨by decide +kernel, by decide +kernel, by decide +kernel⟩⟩
def y_CX_moves : MethodName := ⟨"CellMapper", "moves", "(I)I"⟩
abbrev b_CX_moves : ByteArray := prog_1_method_40_code
set_option maxRecDepth 20000 in
theorem wc_CX_moves : Cond.code y_CX_moves b_CX_moves 3 ((some .int)) ∈ lw_g := List.mem_filter.mpr ⟨List.mem_append_right _ (List.mem_of_getElem? (i := 665) rfl), rfl⟩
theorem wd_663 : (Cond.instanceMethod ⟨"CellMapper", "moves", "(I)I"⟩) ∈ lw_g := List.mem_filter.mpr ⟨List.mem_append_right _ (List.mem_of_getElem? (i := 663) (by decide +kernel)), rfl⟩
theorem wd_664 : (Cond.selects "CellMapper" ⟨"CellMapper", "moves", "(I)I"⟩ ⟨"CellMapper", "moves", "(I)I"⟩) ∈ lw_g := List.mem_filter.mpr ⟨List.mem_append_right _ (List.mem_of_getElem? (i := 664) (by decide +kernel)), rfl⟩
theorem fy_CX_moves : zY y_CX_moves b_CX_moves 3 ((some .int)) 1 := ⟨wd_663, wd_664, wd_1, wc_CX_moves, ⟨by decide +kernel, by decide +kernel, by decide +kernel⟩⟩
def y_CX_latches : MethodName := ⟨"CellMapper", "latches", "(II)J"⟩
abbrev b_CX_latches : ByteArray := prog_1_method_41_code
set_option maxRecDepth 20000 in
theorem wc_CX_latches : Cond.code y_CX_latches b_CX_latches 6 ((some .long)) ∈ lw_g := List.mem_filter.mpr ⟨List.mem_append_right _ (List.mem_of_getElem? (i := 669) rfl), rfl⟩
theorem wd_667 : (Cond.instanceMethod ⟨"CellMapper", "latches", "(II)J"⟩) ∈ lw_g := List.mem_filter.mpr ⟨List.mem_append_right _ (List.mem_of_getElem? (i := 667) (by decide +kernel)), rfl⟩
theorem wd_668 : (Cond.selects "CellMapper" ⟨"CellMapper", "latches", "(II)J"⟩ ⟨"CellMapper", "latches", "(II)J"⟩) ∈ lw_g := List.mem_filter.mpr ⟨List.mem_append_right _ (List.mem_of_getElem? (i := 668) (by decide +kernel)), rfl⟩
theorem fy_CX_latches : zY y_CX_latches b_CX_latches 6 ((some .long)) 2 := ⟨wd_667, wd_668, wd_1, wc_CX_latches, ⟨by decide +kernel, by decide +kernel, by decide +kernel⟩⟩
def y_CX_clock : MethodName := ⟨"CellMapper", "clock", "(I)I"⟩
abbrev b_CX_clock : ByteArray := prog_1_method_43_code
set_option maxRecDepth 20000 in
theorem wc_CX_clock : Cond.code y_CX_clock b_CX_clock 5 ((some .int)) ∈ lw_g := List.mem_filter.mpr ⟨List.mem_append_right _ (List.mem_of_getElem? (i := 676) rfl), rfl⟩
theorem wd_674 : (Cond.instanceMethod ⟨"CellMapper", "clock", "(I)I"⟩) ∈ lw_g := List.mem_filter.mpr ⟨List.mem_append_right _ (List.mem_of_getElem? (i := 674) (by decide +kernel)), rfl⟩
theorem wd_675 : (Cond.selects "CellMapper" ⟨"CellMapper", "clock", "(I)I"⟩ ⟨"CellMapper", "clock", "(I)I"⟩) ∈ lw_g := List.mem_filter.mpr ⟨List.mem_append_right _ (List.mem_of_getElem? (i := 675) (by decide +kernel)), rfl⟩
theorem fy_CX_clock : zY y_CX_clock b_CX_clock 5 ((some .int)) 1 := ⟨wd_674, wd_675, wd_1, wc_CX_clock, ⟨by decide +kernel, by decide +kernel, by decide +kernel⟩⟩
def y_CX_feed : MethodName := ⟨"CellMapper", "feed", "(Ljava/util/ArrayList;I)V"⟩
abbrev b_CX_feed : ByteArray := prog_1_method_42_code
set_option maxRecDepth 20000 in
theorem wc_CX_feed : Cond.code y_CX_feed b_CX_feed 4 ((none : Option ClassFile.FieldType)) ∈ lw_g := List.mem_filter.mpr ⟨List.mem_append_right _ (List.mem_of_getElem? (i := 679) rfl), rfl⟩
theorem wd_678 : (Cond.static ⟨"CellMapper", "feed", "(Ljava/util/ArrayList;I)V"⟩) ∈ lw_g := List.mem_filter.mpr ⟨List.mem_append_right _ (List.mem_of_getElem? (i := 678) (by decide +kernel)), rfl⟩
theorem fs_CX_feed : zYs y_CX_feed b_CX_feed 4 ((none : Option ClassFile.FieldType)) 2 := ⟨wd_678, wd_1, wc_CX_feed, ⟨by decide +kernel, by decide +kernel, by decide +kernel⟩⟩
def y_EN_ordinal : MethodName := ⟨"java/lang/Enum", "ordinal", "()I"⟩
abbrev b_EN_ordinal : ByteArray := prog_15_method_2_code
set_option maxRecDepth 20000 in
theorem wc_EN_ordinal : Cond.code y_EN_ordinal b_EN_ordinal 1 ((some .int)) ∈ lw_g := List.mem_filter.mpr ⟨List.mem_append_right _ (List.mem_of_getElem? (i := 685) rfl), rfl⟩
theorem wd_684 : (Cond.instanceMethod ⟨"java/lang/Enum", "ordinal", "()I"⟩) ∈ lw_g := List.mem_filter.mpr ⟨List.mem_append_right _ (List.mem_of_getElem? (i := 684) (by decide +kernel)), rfl⟩
theorem wd_8 : (Cond.initialized "java/lang/Enum") ∈ lw_g := List.mem_filter.mpr ⟨List.mem_append_right _ (List.mem_of_getElem? (i := 8) (by decide +kernel)), rfl⟩
def y_CX_clockRetimed : MethodName := ⟨"CellMapper", "clockRetimed", "(I)I"⟩
abbrev b_CX_clockRetimed : ByteArray := prog_1_method_45_code
set_option maxRecDepth 20000 in
theorem wc_CX_clockRetimed : Cond.code y_CX_clockRetimed b_CX_clockRetimed 8 ((some .int)) ∈ lw_g := List.mem_filter.mpr ⟨List.mem_append_right _ (List.mem_of_getElem? (i := 689) rfl), rfl⟩
theorem wd_687 : (Cond.instanceMethod ⟨"CellMapper", "clockRetimed", "(I)I"⟩) ∈ lw_g := List.mem_filter.mpr ⟨List.mem_append_right _ (List.mem_of_getElem? (i := 687) (by decide +kernel)), rfl⟩
theorem wd_688 : (Cond.selects "CellMapper" ⟨"CellMapper", "clockRetimed", "(I)I"⟩ ⟨"CellMapper", "clockRetimed", "(I)I"⟩) ∈ lw_g := List.mem_filter.mpr ⟨List.mem_append_right _ (List.mem_of_getElem? (i := 688) (by decide +kernel)), rfl⟩
theorem fy_CX_clockRetimed : zY y_CX_clockRetimed b_CX_clockRetimed 8 ((some .int)) 1 := ⟨wd_687, wd_688, wd_1, wc_CX_clockRetimed, ⟨by decide +kernel, by decide +kernel, by decide +kernel⟩⟩
def y_CX_arrives : MethodName := ⟨"CellMapper", "arrives", "(I)I"⟩
abbrev b_CX_arrives : ByteArray := prog_1_method_44_code
set_option maxRecDepth 20000 in
theorem wc_CX_arrives : Cond.code y_CX_arrives b_CX_arrives 3 ((some .int)) ∈ lw_g := List.mem_filter.mpr ⟨List.mem_append_right _ (List.mem_of_getElem? (i := 693) rfl), rfl⟩
theorem wd_692 : (Cond.instanceMethod ⟨"CellMapper", "arrives", "(I)I"⟩) ∈ lw_g := List.mem_filter.mpr ⟨List.mem_append_right _ (List.mem_of_getElem? (i := 692) (by decide +kernel)), rfl⟩
theorem ws_CX_arrives : Cond.selects y_CX_arrives.cls y_CX_arrives y_CX_arrives ∈ lw_g := List.mem_filter.mpr ⟨List.mem_append_left _ (List.mem_of_getElem? (i := 26) (by decide +kernel)), rfl⟩
theorem fy_CX_arrives : zY y_CX_arrives b_CX_arrives 3 ((some .int)) 1 := ⟨wd_692, ws_CX_arrives, wd_1, wc_CX_arrives, ⟨by decide +kernel, by decide +kernel, by decide +kernel⟩⟩
def y_CX_reset : MethodName := ⟨"CellMapper", "reset", "()V"⟩
abbrev b_CX_reset : ByteArray := prog_1_method_46_code
set_option maxRecDepth 20000 in
theorem wc_CX_reset : Cond.code y_CX_reset b_CX_reset 3 ((none : Option ClassFile.FieldType)) ∈ lw_g := List.mem_filter.mpr ⟨List.mem_append_right _ (List.mem_of_getElem? (i := 697) rfl), rfl⟩
theorem wd_695 : (Cond.instanceMethod ⟨"CellMapper", "reset", "()V"⟩) ∈ lw_g := List.mem_filter.mpr ⟨List.mem_append_right _ (List.mem_of_getElem? (i := 695) (by decide +kernel)), rfl⟩
theorem wd_696 : (Cond.selects "CellMapper" ⟨"CellMapper", "reset", "()V"⟩ ⟨"CellMapper", "reset", "()V"⟩) ∈ lw_g := List.mem_filter.mpr ⟨List.mem_append_right _ (List.mem_of_getElem? (i := 696) (by decide +kernel)), rfl⟩
theorem fy_CX_reset : zY y_CX_reset b_CX_reset 3 ((none : Option ClassFile.FieldType)) 0 := ⟨wd_695, wd_696, wd_1, wc_CX_reset, ⟨by decide +kernel, by decide +kernel, by decide +kernel⟩⟩
def y_MM_init : MethodName := ⟨"CellMapperModel", "<init>", "()V"⟩
abbrev b_MM_init : ByteArray := prog_12_method_1_code
set_option maxRecDepth 20000 in
theorem wc_MM_init : Cond.code y_MM_init b_MM_init 1 ((none : Option ClassFile.FieldType)) ∈ lw_g := List.mem_filter.mpr ⟨List.mem_append_right _ (List.mem_of_getElem? (i := 702) rfl), rfl⟩
theorem wd_701 : (Cond.instanceMethod ⟨"CellMapperModel", "<init>", "()V"⟩) ∈ lw_g := List.mem_filter.mpr ⟨List.mem_append_right _ (List.mem_of_getElem? (i := 701) (by decide +kernel)), rfl⟩
theorem wd_7 : (Cond.initialized "CellMapperModel") ∈ lw_g := List.mem_filter.mpr ⟨List.mem_append_right _ (List.mem_of_getElem? (i := 7) (by decide +kernel)), rfl⟩
def y_MM_input : MethodName := ⟨"CellMapperModel", "input", "()I"⟩
abbrev b_MM_input : ByteArray := prog_12_method_14_code
set_option maxRecDepth 20000 in
theorem wc_MM_input : Cond.code y_MM_input b_MM_input 2 ((some .int)) ∈ lw_g := List.mem_filter.mpr ⟨List.mem_append_right _ (List.mem_of_getElem? (i := 862) rfl), rfl⟩
theorem wd_860 : (Cond.instanceMethod ⟨"CellMapperModel", "input", "()I"⟩) ∈ lw_g := List.mem_filter.mpr ⟨List.mem_append_right _ (List.mem_of_getElem? (i := 860) (by decide +kernel)), rfl⟩
theorem wd_861 : (Cond.selects "CellMapperModel" ⟨"CellMapperModel", "input", "()I"⟩ ⟨"CellMapperModel", "input", "()I"⟩) ∈ lw_g := List.mem_filter.mpr ⟨List.mem_append_right _ (List.mem_of_getElem? (i := 861) (by decide +kernel)), rfl⟩
theorem fy_MM_input : zY y_MM_input b_MM_input 2 ((some .int)) 0 := ⟨wd_860, wd_861, wd_7, wc_MM_input, ⟨by decide +kernel, by decide +kernel, by decide +kernel⟩⟩
def y_MM_newNode : MethodName := ⟨"CellMapperModel", "newNode", "(IIII)I"⟩
abbrev b_MM_newNode : ByteArray := prog_12_method_2_code
set_option maxRecDepth 20000 in
theorem wc_MM_newNode : Cond.code y_MM_newNode b_MM_newNode 5 ((some .int)) ∈ lw_g := List.mem_filter.mpr ⟨List.mem_append_right _ (List.mem_of_getElem? (i := 866) rfl), rfl⟩
theorem wd_865 : (Cond.instanceMethod ⟨"CellMapperModel", "newNode", "(IIII)I"⟩) ∈ lw_g := List.mem_filter.mpr ⟨List.mem_append_right _ (List.mem_of_getElem? (i := 865) (by decide +kernel)), rfl⟩
theorem ws_MM_newNode : Cond.selects y_MM_newNode.cls y_MM_newNode y_MM_newNode ∈ lw_g := List.mem_filter.mpr ⟨List.mem_append_left _ (List.mem_of_getElem? (i := 27) (by decide +kernel)), rfl⟩
theorem fy_MM_newNode : zY y_MM_newNode b_MM_newNode 5 ((some .int)) 4 := ⟨wd_865, ws_MM_newNode, wd_7, wc_MM_newNode, ⟨by decide +kernel, by decide +kernel, by decide +kernel⟩⟩
def y_MM_newNet : MethodName := ⟨"CellMapperModel", "newNet", "(III)I"⟩
abbrev b_MM_newNet : ByteArray := prog_12_method_13_code
set_option maxRecDepth 20000 in
theorem wc_MM_newNet : Cond.code y_MM_newNet b_MM_newNet 4 ((some .int)) ∈ lw_g := List.mem_filter.mpr ⟨List.mem_append_right _ (List.mem_of_getElem? (i := 870) rfl), rfl⟩
theorem wd_869 : (Cond.instanceMethod ⟨"CellMapperModel", "newNet", "(III)I"⟩) ∈ lw_g := List.mem_filter.mpr ⟨List.mem_append_right _ (List.mem_of_getElem? (i := 869) (by decide +kernel)), rfl⟩
theorem ws_MM_newNet : Cond.selects y_MM_newNet.cls y_MM_newNet y_MM_newNet ∈ lw_g := List.mem_filter.mpr ⟨List.mem_append_left _ (List.mem_of_getElem? (i := 28) (by decide +kernel)), rfl⟩
theorem fy_MM_newNet : zY y_MM_newNet b_MM_newNet 4 ((some .int)) 3 := ⟨wd_869, ws_MM_newNet, wd_7, wc_MM_newNet, ⟨by decide +kernel, by decide +kernel, by decide +kernel⟩⟩
def y_MM_changed : MethodName := ⟨"CellMapperModel", "changed", "()V"⟩
abbrev b_MM_changed : ByteArray := prog_12_method_12_code
set_option maxRecDepth 20000 in
theorem wc_MM_changed : Cond.code y_MM_changed b_MM_changed 2 ((none : Option ClassFile.FieldType)) ∈ lw_g := List.mem_filter.mpr ⟨List.mem_append_right _ (List.mem_of_getElem? (i := 874) rfl), rfl⟩
theorem wd_873 : (Cond.instanceMethod ⟨"CellMapperModel", "changed", "()V"⟩) ∈ lw_g := List.mem_filter.mpr ⟨List.mem_append_right _ (List.mem_of_getElem? (i := 873) (by decide +kernel)), rfl⟩
theorem ws_MM_changed : Cond.selects y_MM_changed.cls y_MM_changed y_MM_changed ∈ lw_g := List.mem_filter.mpr ⟨List.mem_append_left _ (List.mem_of_getElem? (i := 29) (by decide +kernel)), rfl⟩
theorem fy_MM_changed : zY y_MM_changed b_MM_changed 2 ((none : Option ClassFile.FieldType)) 0 := ⟨wd_873, ws_MM_changed, wd_7, wc_MM_changed, ⟨by decide +kernel, by decide +kernel, by decide +kernel⟩⟩
def y_MM_latch : MethodName := ⟨"CellMapperModel", "latch", "(I)I"⟩
abbrev b_MM_latch : ByteArray := prog_12_method_15_code
set_option maxRecDepth 20000 in
theorem wc_MM_latch : Cond.code y_MM_latch b_MM_latch 3 ((some .int)) ∈ lw_g := List.mem_filter.mpr ⟨List.mem_append_right _ (List.mem_of_getElem? (i := 878) rfl), rfl⟩
theorem wd_876 : (Cond.instanceMethod ⟨"CellMapperModel", "latch", "(I)I"⟩) ∈ lw_g := List.mem_filter.mpr ⟨List.mem_append_right _ (List.mem_of_getElem? (i := 876) (by decide +kernel)), rfl⟩
theorem wd_877 : (Cond.selects "CellMapperModel" ⟨"CellMapperModel", "latch", "(I)I"⟩ ⟨"CellMapperModel", "latch", "(I)I"⟩) ∈ lw_g := List.mem_filter.mpr ⟨List.mem_append_right _ (List.mem_of_getElem? (i := 877) (by decide +kernel)), rfl⟩
theorem fy_MM_latch : zY y_MM_latch b_MM_latch 3 ((some .int)) 1 := ⟨wd_876, wd_877, wd_7, wc_MM_latch, ⟨by decide +kernel, by decide +kernel, by decide +kernel⟩⟩
def y_MM_function : MethodName := ⟨"CellMapperModel", "function", "(IIII)I"⟩
abbrev b_MM_function : ByteArray := prog_12_method_16_code
set_option maxRecDepth 20000 in
theorem wc_MM_function : Cond.code y_MM_function b_MM_function 7 ((some .int)) ∈ lw_g := List.mem_filter.mpr ⟨List.mem_append_right _ (List.mem_of_getElem? (i := 882) rfl), rfl⟩
theorem wd_880 : (Cond.instanceMethod ⟨"CellMapperModel", "function", "(IIII)I"⟩) ∈ lw_g := List.mem_filter.mpr ⟨List.mem_append_right _ (List.mem_of_getElem? (i := 880) (by decide +kernel)), rfl⟩
theorem wd_881 : (Cond.selects "CellMapperModel" ⟨"CellMapperModel", "function", "(IIII)I"⟩ ⟨"CellMapperModel", "function", "(IIII)I"⟩) ∈ lw_g := List.mem_filter.mpr ⟨List.mem_append_right _ (List.mem_of_getElem? (i := 881) (by decide +kernel)), rfl⟩
theorem fy_MM_function : zY y_MM_function b_MM_function 7 ((some .int)) 4 := ⟨wd_880, wd_881, wd_7, wc_MM_function, ⟨by decide +kernel, by decide +kernel, by decide +kernel⟩⟩
def y_MM_isNet : MethodName := ⟨"CellMapperModel", "isNet", "(I)Z"⟩
abbrev b_MM_isNet : ByteArray := prog_12_method_11_code
set_option maxRecDepth 20000 in
theorem wc_MM_isNet : Cond.code y_MM_isNet b_MM_isNet 2 ((some .boolean)) ∈ lw_g := List.mem_filter.mpr ⟨List.mem_append_right _ (List.mem_of_getElem? (i := 886) rfl), rfl⟩
theorem wd_885 : (Cond.instanceMethod ⟨"CellMapperModel", "isNet", "(I)Z"⟩) ∈ lw_g := List.mem_filter.mpr ⟨List.mem_append_right _ (List.mem_of_getElem? (i := 885) (by decide +kernel)), rfl⟩
theorem ws_MM_isNet : Cond.selects y_MM_isNet.cls y_MM_isNet y_MM_isNet ∈ lw_g := List.mem_filter.mpr ⟨List.mem_append_left _ (List.mem_of_getElem? (i := 30) (by decide +kernel)), rfl⟩
theorem fy_MM_isNet : zY y_MM_isNet b_MM_isNet 2 ((some .boolean)) 1 := ⟨wd_885, ws_MM_isNet, wd_7, wc_MM_isNet, ⟨by decide +kernel, by decide +kernel, by decide +kernel⟩⟩
def y_MM_overThree : MethodName := ⟨"CellMapperModel", "overThree", "(IIII)I"⟩
abbrev b_MM_overThree : ByteArray := prog_12_method_10_code
set_option maxRecDepth 20000 in
theorem wc_MM_overThree : Cond.code y_MM_overThree b_MM_overThree 9 ((some .int)) ∈ lw_g := List.mem_filter.mpr ⟨List.mem_append_right _ (List.mem_of_getElem? (i := 890) rfl), rfl⟩
theorem wd_889 : (Cond.instanceMethod ⟨"CellMapperModel", "overThree", "(IIII)I"⟩) ∈ lw_g := List.mem_filter.mpr ⟨List.mem_append_right _ (List.mem_of_getElem? (i := 889) (by decide +kernel)), rfl⟩
theorem ws_MM_overThree : Cond.selects y_MM_overThree.cls y_MM_overThree y_MM_overThree ∈ lw_g := List.mem_filter.mpr ⟨List.mem_append_left _ (List.mem_of_getElem? (i := 31) (by decide +kernel)), rfl⟩
theorem fy_MM_overThree : zY y_MM_overThree b_MM_overThree 9 ((some .int)) 4 := ⟨wd_889, ws_MM_overThree, wd_7, wc_MM_overThree, ⟨by decide +kernel, by decide +kernel, by decide +kernel⟩⟩
def y_MM_overTwo : MethodName := ⟨"CellMapperModel", "overTwo", "(III)I"⟩
abbrev b_MM_overTwo : ByteArray := prog_12_method_9_code
set_option maxRecDepth 20000 in
theorem wc_MM_overTwo : Cond.code y_MM_overTwo b_MM_overTwo 8 ((some .int)) ∈ lw_g := List.mem_filter.mpr ⟨List.mem_append_right _ (List.mem_of_getElem? (i := 894) rfl), rfl⟩
theorem wd_893 : (Cond.instanceMethod ⟨"CellMapperModel", "overTwo", "(III)I"⟩) ∈ lw_g := List.mem_filter.mpr ⟨List.mem_append_right _ (List.mem_of_getElem? (i := 893) (by decide +kernel)), rfl⟩
theorem ws_MM_overTwo : Cond.selects y_MM_overTwo.cls y_MM_overTwo y_MM_overTwo ∈ lw_g := List.mem_filter.mpr ⟨List.mem_append_left _ (List.mem_of_getElem? (i := 32) (by decide +kernel)), rfl⟩
theorem fy_MM_overTwo : zY y_MM_overTwo b_MM_overTwo 8 ((some .int)) 3 := ⟨wd_893, ws_MM_overTwo, wd_7, wc_MM_overTwo, ⟨by decide +kernel, by decide +kernel, by decide +kernel⟩⟩
def y_MM_overOne : MethodName := ⟨"CellMapperModel", "overOne", "(II)I"⟩
abbrev b_MM_overOne : ByteArray := prog_12_method_8_code
set_option maxRecDepth 20000 in
theorem wc_MM_overOne : Cond.code y_MM_overOne b_MM_overOne 3 ((some .int)) ∈ lw_g := List.mem_filter.mpr ⟨List.mem_append_right _ (List.mem_of_getElem? (i := 898) rfl), rfl⟩
theorem wd_897 : (Cond.instanceMethod ⟨"CellMapperModel", "overOne", "(II)I"⟩) ∈ lw_g := List.mem_filter.mpr ⟨List.mem_append_right _ (List.mem_of_getElem? (i := 897) (by decide +kernel)), rfl⟩
theorem ws_MM_overOne : Cond.selects y_MM_overOne.cls y_MM_overOne y_MM_overOne ∈ lw_g := List.mem_filter.mpr ⟨List.mem_append_left _ (List.mem_of_getElem? (i := 33) (by decide +kernel)), rfl⟩
theorem fy_MM_overOne : zY y_MM_overOne b_MM_overOne 3 ((some .int)) 2 := ⟨wd_897, ws_MM_overOne, wd_7, wc_MM_overOne, ⟨by decide +kernel, by decide +kernel, by decide +kernel⟩⟩
def y_MM_join : MethodName := ⟨"CellMapperModel", "join", "(IIIII)I"⟩
abbrev b_MM_join : ByteArray := prog_12_method_6_code
set_option maxRecDepth 20000 in
theorem wc_MM_join : Cond.code y_MM_join b_MM_join 9 ((some .int)) ∈ lw_g := List.mem_filter.mpr ⟨List.mem_append_right _ (List.mem_of_getElem? (i := 902) rfl), rfl⟩
theorem wd_901 : (Cond.instanceMethod ⟨"CellMapperModel", "join", "(IIIII)I"⟩) ∈ lw_g := List.mem_filter.mpr ⟨List.mem_append_right _ (List.mem_of_getElem? (i := 901) (by decide +kernel)), rfl⟩
theorem ws_MM_join : Cond.selects y_MM_join.cls y_MM_join y_MM_join ∈ lw_g := List.mem_filter.mpr ⟨List.mem_append_left _ (List.mem_of_getElem? (i := 34) (by decide +kernel)), rfl⟩
theorem fy_MM_join : zY y_MM_join b_MM_join 9 ((some .int)) 5 := ⟨wd_901, ws_MM_join, wd_7, wc_MM_join, ⟨by decide +kernel, by decide +kernel, by decide +kernel⟩⟩
def y_MM_inv : MethodName := ⟨"CellMapperModel", "inv", "(I)I"⟩
abbrev b_MM_inv : ByteArray := prog_12_method_4_code
set_option maxRecDepth 20000 in
theorem wc_MM_inv : Cond.code y_MM_inv b_MM_inv 2 ((some .int)) ∈ lw_g := List.mem_filter.mpr ⟨List.mem_append_right _ (List.mem_of_getElem? (i := 906) rfl), rfl⟩
theorem wd_905 : (Cond.instanceMethod ⟨"CellMapperModel", "inv", "(I)I"⟩) ∈ lw_g := List.mem_filter.mpr ⟨List.mem_append_right _ (List.mem_of_getElem? (i := 905) (by decide +kernel)), rfl⟩
theorem ws_MM_inv : Cond.selects y_MM_inv.cls y_MM_inv y_MM_inv ∈ lw_g := List.mem_filter.mpr ⟨List.mem_append_left _ (List.mem_of_getElem? (i := 35) (by decide +kernel)), rfl⟩
theorem fy_MM_inv : zY y_MM_inv b_MM_inv 2 ((some .int)) 1 := ⟨wd_905, ws_MM_inv, wd_7, wc_MM_inv, ⟨by decide +kernel, by decide +kernel, by decide +kernel⟩⟩
def y_MM_find : MethodName := ⟨"CellMapperModel", "find", "(III)I"⟩
abbrev b_MM_find : ByteArray := prog_12_method_3_code
set_option maxRecDepth 20000 in
theorem wc_MM_find : Cond.code y_MM_find b_MM_find 5 ((some .int)) ∈ lw_g := List.mem_filter.mpr ⟨List.mem_append_right _ (List.mem_of_getElem? (i := 910) rfl), rfl⟩
theorem wd_909 : (Cond.instanceMethod ⟨"CellMapperModel", "find", "(III)I"⟩) ∈ lw_g := List.mem_filter.mpr ⟨List.mem_append_right _ (List.mem_of_getElem? (i := 909) (by decide +kernel)), rfl⟩
theorem ws_MM_find : Cond.selects y_MM_find.cls y_MM_find y_MM_find ∈ lw_g := List.mem_filter.mpr ⟨List.mem_append_left _ (List.mem_of_getElem? (i := 36) (by decide +kernel)), rfl⟩
theorem fy_MM_find : zY y_MM_find b_MM_find 5 ((some .int)) 3 := ⟨wd_909, ws_MM_find, wd_7, wc_MM_find, ⟨by decide +kernel, by decide +kernel, by decide +kernel⟩⟩
def y_MM_nand : MethodName := ⟨"CellMapperModel", "nand", "(II)I"⟩
abbrev b_MM_nand : ByteArray := prog_12_method_5_code
set_option maxRecDepth 20000 in
theorem wc_MM_nand : Cond.code y_MM_nand b_MM_nand 3 ((some .int)) ∈ lw_g := List.mem_filter.mpr ⟨List.mem_append_right _ (List.mem_of_getElem? (i := 914) rfl), rfl⟩
theorem wd_913 : (Cond.instanceMethod ⟨"CellMapperModel", "nand", "(II)I"⟩) ∈ lw_g := List.mem_filter.mpr ⟨List.mem_append_right _ (List.mem_of_getElem? (i := 913) (by decide +kernel)), rfl⟩
theorem ws_MM_nand : Cond.selects y_MM_nand.cls y_MM_nand y_MM_nand ∈ lw_g := List.mem_filter.mpr ⟨List.mem_append_left _ (List.mem_of_getElem? (i := 37) (by decide +kernel)), rfl⟩
theorem fy_MM_nand : zY y_MM_nand b_MM_nand 3 ((some .int)) 2 := ⟨wd_913, ws_MM_nand, wd_7, wc_MM_nand, ⟨by decide +kernel, by decide +kernel, by decide +kernel⟩⟩
def y_MM_flat : MethodName := ⟨"CellMapperModel", "flat", "(II)I"⟩
abbrev b_MM_flat : ByteArray := prog_12_method_7_code
set_option maxRecDepth 20000 in
theorem wc_MM_flat : Cond.code y_MM_flat b_MM_flat 2 ((some .int)) ∈ lw_g := List.mem_filter.mpr ⟨List.mem_append_right _ (List.mem_of_getElem? (i := 917) rfl), rfl⟩
theorem wd_916 : (Cond.static ⟨"CellMapperModel", "flat", "(II)I"⟩) ∈ lw_g := List.mem_filter.mpr ⟨List.mem_append_right _ (List.mem_of_getElem? (i := 916) (by decide +kernel)), rfl⟩
theorem fs_MM_flat : zYs y_MM_flat b_MM_flat 2 ((some .int)) 2 := ⟨wd_916, wd_7, wc_MM_flat, ⟨by decide +kernel, by decide +kernel, by decide +kernel⟩⟩
def y_MM_drive : MethodName := ⟨"CellMapperModel", "drive", "(II)Z"⟩
abbrev b_MM_drive : ByteArray := prog_12_method_17_code
set_option maxRecDepth 20000 in
theorem wc_MM_drive : Cond.code y_MM_drive b_MM_drive 3 ((some .boolean)) ∈ lw_g := List.mem_filter.mpr ⟨List.mem_append_right _ (List.mem_of_getElem? (i := 921) rfl), rfl⟩
theorem wd_919 : (Cond.instanceMethod ⟨"CellMapperModel", "drive", "(II)Z"⟩) ∈ lw_g := List.mem_filter.mpr ⟨List.mem_append_right _ (List.mem_of_getElem? (i := 919) (by decide +kernel)), rfl⟩
theorem wd_920 : (Cond.selects "CellMapperModel" ⟨"CellMapperModel", "drive", "(II)Z"⟩ ⟨"CellMapperModel", "drive", "(II)Z"⟩) ∈ lw_g := List.mem_filter.mpr ⟨List.mem_append_right _ (List.mem_of_getElem? (i := 920) (by decide +kernel)), rfl⟩
theorem fy_MM_drive : zY y_MM_drive b_MM_drive 3 ((some .boolean)) 2 := ⟨wd_919, wd_920, wd_7, wc_MM_drive, ⟨by decide +kernel, by decide +kernel, by decide +kernel⟩⟩
def y_MM_output : MethodName := ⟨"CellMapperModel", "output", "(I)I"⟩
abbrev b_MM_output : ByteArray := prog_12_method_18_code
set_option maxRecDepth 20000 in
theorem wc_MM_output : Cond.code y_MM_output b_MM_output 2 ((some .int)) ∈ lw_g := List.mem_filter.mpr ⟨List.mem_append_right _ (List.mem_of_getElem? (i := 925) rfl), rfl⟩
theorem wd_923 : (Cond.instanceMethod ⟨"CellMapperModel", "output", "(I)I"⟩) ∈ lw_g := List.mem_filter.mpr ⟨List.mem_append_right _ (List.mem_of_getElem? (i := 923) (by decide +kernel)), rfl⟩
theorem wd_924 : (Cond.selects "CellMapperModel" ⟨"CellMapperModel", "output", "(I)I"⟩ ⟨"CellMapperModel", "output", "(I)I"⟩) ∈ lw_g := List.mem_filter.mpr ⟨List.mem_append_right _ (List.mem_of_getElem? (i := 924) (by decide +kernel)), rfl⟩
theorem fy_MM_output : zY y_MM_output b_MM_output 2 ((some .int)) 1 := ⟨wd_923, wd_924, wd_7, wc_MM_output, ⟨by decide +kernel, by decide +kernel, by decide +kernel⟩⟩
def y_MM_cell : MethodName := ⟨"CellMapperModel", "cell", "(III)I"⟩
abbrev b_MM_cell : ByteArray := prog_12_method_20_code
set_option maxRecDepth 20000 in
theorem wc_MM_cell : Cond.code y_MM_cell b_MM_cell 4 ((some .int)) ∈ lw_g := List.mem_filter.mpr ⟨List.mem_append_right _ (List.mem_of_getElem? (i := 929) rfl), rfl⟩
theorem wd_927 : (Cond.instanceMethod ⟨"CellMapperModel", "cell", "(III)I"⟩) ∈ lw_g := List.mem_filter.mpr ⟨List.mem_append_right _ (List.mem_of_getElem? (i := 927) (by decide +kernel)), rfl⟩
theorem wd_928 : (Cond.selects "CellMapperModel" ⟨"CellMapperModel", "cell", "(III)I"⟩ ⟨"CellMapperModel", "cell", "(III)I"⟩) ∈ lw_g := List.mem_filter.mpr ⟨List.mem_append_right _ (List.mem_of_getElem? (i := 928) (by decide +kernel)), rfl⟩
theorem fy_MM_cell : zY y_MM_cell b_MM_cell 4 ((some .int)) 3 := ⟨wd_927, wd_928, wd_7, wc_MM_cell, ⟨by decide +kernel, by decide +kernel, by decide +kernel⟩⟩
def y_MM_isPattern : MethodName := ⟨"CellMapperModel", "isPattern", "(I)Z"⟩
abbrev b_MM_isPattern : ByteArray := prog_12_method_19_code
set_option maxRecDepth 20000 in
theorem wc_MM_isPattern : Cond.code y_MM_isPattern b_MM_isPattern 4 ((some .boolean)) ∈ lw_g := List.mem_filter.mpr ⟨List.mem_append_right _ (List.mem_of_getElem? (i := 932) rfl), rfl⟩
theorem wd_931 : (Cond.static ⟨"CellMapperModel", "isPattern", "(I)Z"⟩) ∈ lw_g := List.mem_filter.mpr ⟨List.mem_append_right _ (List.mem_of_getElem? (i := 931) (by decide +kernel)), rfl⟩
theorem fs_MM_isPattern : zYs y_MM_isPattern b_MM_isPattern 4 ((some .boolean)) 1 := ⟨wd_931, wd_7, wc_MM_isPattern, ⟨by decide +kernel, by decide +kernel, by decide +kernel⟩⟩
def y_MM_nodes : MethodName := ⟨"CellMapperModel", "nodes", "()I"⟩
abbrev b_MM_nodes : ByteArray := prog_12_method_21_code
set_option maxRecDepth 20000 in
theorem wc_MM_nodes : Cond.code y_MM_nodes b_MM_nodes 1 ((some .int)) ∈ lw_g := List.mem_filter.mpr ⟨List.mem_append_right _ (List.mem_of_getElem? (i := 936) rfl), rfl⟩
theorem wd_934 : (Cond.instanceMethod ⟨"CellMapperModel", "nodes", "()I"⟩) ∈ lw_g := List.mem_filter.mpr ⟨List.mem_append_right _ (List.mem_of_getElem? (i := 934) (by decide +kernel)), rfl⟩
theorem wd_935 : (Cond.selects "CellMapperModel" ⟨"CellMapperModel", "nodes", "()I"⟩ ⟨"CellMapperModel", "nodes", "()I"⟩) ∈ lw_g := List.mem_filter.mpr ⟨List.mem_append_right _ (List.mem_of_getElem? (i := 935) (by decide +kernel)), rfl⟩
theorem fy_MM_nodes : zY y_MM_nodes b_MM_nodes 1 ((some .int)) 0 := ⟨wd_934, wd_935, wd_7, wc_MM_nodes, ⟨by decide +kernel, by decide +kernel, by decide +kernel⟩⟩
def y_MM_nodeOf : MethodName := ⟨"CellMapperModel", "nodeOf", "(I)I"⟩
abbrev b_MM_nodeOf : ByteArray := prog_12_method_22_code
set_option maxRecDepth 20000 in
theorem wc_MM_nodeOf : Cond.code y_MM_nodeOf b_MM_nodeOf 2 ((some .int)) ∈ lw_g := List.mem_filter.mpr ⟨List.mem_append_right _ (List.mem_of_getElem? (i := 940) rfl), rfl⟩
theorem wd_938 : (Cond.instanceMethod ⟨"CellMapperModel", "nodeOf", "(I)I"⟩) ∈ lw_g := List.mem_filter.mpr ⟨List.mem_append_right _ (List.mem_of_getElem? (i := 938) (by decide +kernel)), rfl⟩
theorem wd_939 : (Cond.selects "CellMapperModel" ⟨"CellMapperModel", "nodeOf", "(I)I"⟩ ⟨"CellMapperModel", "nodeOf", "(I)I"⟩) ∈ lw_g := List.mem_filter.mpr ⟨List.mem_append_right _ (List.mem_of_getElem? (i := 939) (by decide +kernel)), rfl⟩
theorem fy_MM_nodeOf : zY y_MM_nodeOf b_MM_nodeOf 2 ((some .int)) 1 := ⟨wd_938, wd_939, wd_7, wc_MM_nodeOf, ⟨by decide +kernel, by decide +kernel, by decide +kernel⟩⟩
def y_MM_part : MethodName := ⟨"CellMapperModel", "part", "(II)I"⟩
abbrev b_MM_part : ByteArray := prog_12_method_23_code
set_option maxRecDepth 20000 in
theorem wc_MM_part : Cond.code y_MM_part b_MM_part 3 ((some .int)) ∈ lw_g := List.mem_filter.mpr ⟨List.mem_append_right _ (List.mem_of_getElem? (i := 944) rfl), rfl⟩
theorem wd_942 : (Cond.instanceMethod ⟨"CellMapperModel", "part", "(II)I"⟩) ∈ lw_g := List.mem_filter.mpr ⟨List.mem_append_right _ (List.mem_of_getElem? (i := 942) (by decide +kernel)), rfl⟩
theorem wd_943 : (Cond.selects "CellMapperModel" ⟨"CellMapperModel", "part", "(II)I"⟩ ⟨"CellMapperModel", "part", "(II)I"⟩) ∈ lw_g := List.mem_filter.mpr ⟨List.mem_append_right _ (List.mem_of_getElem? (i := 943) (by decide +kernel)), rfl⟩
theorem fy_MM_part : zY y_MM_part b_MM_part 3 ((some .int)) 2 := ⟨wd_942, wd_943, wd_7, wc_MM_part, ⟨by decide +kernel, by decide +kernel, by decide +kernel⟩⟩
def y_MM_map : MethodName := ⟨"CellMapperModel", "map", "()I"⟩
abbrev b_MM_map : ByteArray := prog_12_method_48_code
set_option maxRecDepth 20000 in
theorem wc_MM_map : Cond.code y_MM_map b_MM_map 1 ((some .int)) ∈ lw_g := List.mem_filter.mpr ⟨List.mem_append_right _ (List.mem_of_getElem? (i := 948) rfl), rfl⟩
theorem wd_946 : (Cond.instanceMethod ⟨"CellMapperModel", "map", "()I"⟩) ∈ lw_g := List.mem_filter.mpr ⟨List.mem_append_right _ (List.mem_of_getElem? (i := 946) (by decide +kernel)), rfl⟩
theorem wd_947 : (Cond.selects "CellMapperModel" ⟨"CellMapperModel", "map", "()I"⟩ ⟨"CellMapperModel", "map", "()I"⟩) ∈ lw_g := List.mem_filter.mpr ⟨List.mem_append_right _ (List.mem_of_getElem? (i := 947) (by decide +kernel)), rfl⟩
theorem fy_MM_map : zY y_MM_map b_MM_map 1 ((some .int)) 0 := ⟨wd_946, wd_947, wd_7, wc_MM_map, ⟨by decide +kernel, by decide +kernel, by decide +kernel⟩⟩
def y_MM_undriven : MethodName := ⟨"CellMapperModel", "undriven", "()Z"⟩
abbrev b_MM_undriven : ByteArray := prog_12_method_44_code
set_option maxRecDepth 20000 in
theorem wc_MM_undriven : Cond.code y_MM_undriven b_MM_undriven 2 ((some .boolean)) ∈ lw_g := List.mem_filter.mpr ⟨List.mem_append_right _ (List.mem_of_getElem? (i := 952) rfl), rfl⟩
theorem wd_951 : (Cond.instanceMethod ⟨"CellMapperModel", "undriven", "()Z"⟩) ∈ lw_g := List.mem_filter.mpr ⟨List.mem_append_right _ (List.mem_of_getElem? (i := 951) (by decide +kernel)), rfl⟩
theorem ws_MM_undriven : Cond.selects y_MM_undriven.cls y_MM_undriven y_MM_undriven ∈ lw_g := List.mem_filter.mpr ⟨List.mem_append_left _ (List.mem_of_getElem? (i := 38) (by decide +kernel)), rfl⟩
theorem fy_MM_undriven : zY y_MM_undriven b_MM_undriven 2 ((some .boolean)) 0 := ⟨wd_951, ws_MM_undriven, wd_7, wc_MM_undriven, ⟨by decide +kernel, by decide +kernel, by decide +kernel⟩⟩
def y_MM_ring : MethodName := ⟨"CellMapperModel", "ring", "()Z"⟩
abbrev b_MM_ring : ByteArray := prog_12_method_45_code
set_option maxRecDepth 20000 in
theorem wc_MM_ring : Cond.code y_MM_ring b_MM_ring 4 ((some .boolean)) ∈ lw_g := List.mem_filter.mpr ⟨List.mem_append_right _ (List.mem_of_getElem? (i := 956) rfl), rfl⟩
theorem wd_955 : (Cond.instanceMethod ⟨"CellMapperModel", "ring", "()Z"⟩) ∈ lw_g := List.mem_filter.mpr ⟨List.mem_append_right _ (List.mem_of_getElem? (i := 955) (by decide +kernel)), rfl⟩
theorem ws_MM_ring : Cond.selects y_MM_ring.cls y_MM_ring y_MM_ring ∈ lw_g := List.mem_filter.mpr ⟨List.mem_append_left _ (List.mem_of_getElem? (i := 39) (by decide +kernel)), rfl⟩
theorem fy_MM_ring : zY y_MM_ring b_MM_ring 4 ((some .boolean)) 0 := ⟨wd_955, ws_MM_ring, wd_7, wc_MM_ring, ⟨by decide +kernel, by decide +kernel, by decide +kernel⟩⟩
def y_MM_hasCell : MethodName := ⟨"CellMapperModel", "hasCell", "(I)Z"⟩
abbrev b_MM_hasCell : ByteArray := prog_12_method_46_code
set_option maxRecDepth 20000 in
theorem wc_MM_hasCell : Cond.code y_MM_hasCell b_MM_hasCell 3 ((some .boolean)) ∈ lw_g := List.mem_filter.mpr ⟨List.mem_append_right _ (List.mem_of_getElem? (i := 960) rfl), rfl⟩
theorem wd_959 : (Cond.instanceMethod ⟨"CellMapperModel", "hasCell", "(I)Z"⟩) ∈ lw_g := List.mem_filter.mpr ⟨List.mem_append_right _ (List.mem_of_getElem? (i := 959) (by decide +kernel)), rfl⟩
theorem ws_MM_hasCell : Cond.selects y_MM_hasCell.cls y_MM_hasCell y_MM_hasCell ∈ lw_g := List.mem_filter.mpr ⟨List.mem_append_left _ (List.mem_of_getElem? (i := 40) (by decide +kernel)), rfl⟩
theorem fy_MM_hasCell : zY y_MM_hasCell b_MM_hasCell 3 ((some .boolean)) 1 := ⟨wd_959, ws_MM_hasCell, wd_7, wc_MM_hasCell, ⟨by decide +kernel, by decide +kernel, by decide +kernel⟩⟩
def y_MM_cover : MethodName := ⟨"CellMapperModel", "cover", "()V"⟩
abbrev b_MM_cover : ByteArray := prog_12_method_31_code
set_option maxRecDepth 20000 in
theorem wc_MM_cover : Cond.code y_MM_cover b_MM_cover 3 ((none : Option ClassFile.FieldType)) ∈ lw_g := List.mem_filter.mpr ⟨List.mem_append_right _ (List.mem_of_getElem? (i := 964) rfl), rfl⟩
theorem wd_963 : (Cond.instanceMethod ⟨"CellMapperModel", "cover", "()V"⟩) ∈ lw_g := List.mem_filter.mpr ⟨List.mem_append_right _ (List.mem_of_getElem? (i := 963) (by decide +kernel)), rfl⟩
theorem ws_MM_cover : Cond.selects y_MM_cover.cls y_MM_cover y_MM_cover ∈ lw_g := List.mem_filter.mpr ⟨List.mem_append_left _ (List.mem_of_getElem? (i := 41) (by decide +kernel)), rfl⟩
theorem fy_MM_cover : zY y_MM_cover b_MM_cover 3 ((none : Option ClassFile.FieldType)) 0 := ⟨wd_963, ws_MM_cover, wd_7, wc_MM_cover, ⟨by decide +kernel, by decide +kernel, by decide +kernel⟩⟩
def y_MM_findRoots : MethodName := ⟨"CellMapperModel", "findRoots", "()V"⟩
abbrev b_MM_findRoots : ByteArray := prog_12_method_26_code
set_option maxRecDepth 20000 in
theorem wc_MM_findRoots : Cond.code y_MM_findRoots b_MM_findRoots 2 ((none : Option ClassFile.FieldType)) ∈ lw_g := List.mem_filter.mpr ⟨List.mem_append_right _ (List.mem_of_getElem? (i := 968) rfl), rfl⟩
theorem wd_967 : (Cond.instanceMethod ⟨"CellMapperModel", "findRoots", "()V"⟩) ∈ lw_g := List.mem_filter.mpr ⟨List.mem_append_right _ (List.mem_of_getElem? (i := 967) (by decide +kernel)), rfl⟩
theorem ws_MM_findRoots : Cond.selects y_MM_findRoots.cls y_MM_findRoots y_MM_findRoots ∈ lw_g := List.mem_filter.mpr ⟨List.mem_append_left _ (List.mem_of_getElem? (i := 42) (by decide +kernel)), rfl⟩
theorem fy_MM_findRoots : zY y_MM_findRoots b_MM_findRoots 2 ((none : Option ClassFile.FieldType)) 0 := ⟨wd_967, ws_MM_findRoots, wd_7, wc_MM_findRoots, ⟨by decide +kernel, by decide +kernel, by decide +kernel⟩⟩
def y_MM_needed : MethodName := ⟨"CellMapperModel", "needed", "(I)V"⟩
abbrev b_MM_needed : ByteArray := prog_12_method_25_code
set_option maxRecDepth 20000 in
theorem wc_MM_needed : Cond.code y_MM_needed b_MM_needed 3 ((none : Option ClassFile.FieldType)) ∈ lw_g := List.mem_filter.mpr ⟨List.mem_append_right _ (List.mem_of_getElem? (i := 972) rfl), rfl⟩
theorem wd_971 : (Cond.instanceMethod ⟨"CellMapperModel", "needed", "(I)V"⟩) ∈ lw_g := List.mem_filter.mpr ⟨List.mem_append_right _ (List.mem_of_getElem? (i := 971) (by decide +kernel)), rfl⟩
theorem ws_MM_needed : Cond.selects y_MM_needed.cls y_MM_needed y_MM_needed ∈ lw_g := List.mem_filter.mpr ⟨List.mem_append_left _ (List.mem_of_getElem? (i := 43) (by decide +kernel)), rfl⟩
theorem fy_MM_needed : zY y_MM_needed b_MM_needed 3 ((none : Option ClassFile.FieldType)) 1 := ⟨wd_971, ws_MM_needed, wd_7, wc_MM_needed, ⟨by decide +kernel, by decide +kernel, by decide +kernel⟩⟩
def y_MM_logic : MethodName := ⟨"CellMapperModel", "logic", "(I)Z"⟩
abbrev b_MM_logic : ByteArray := prog_12_method_24_code
set_option maxRecDepth 20000 in
theorem wc_MM_logic : Cond.code y_MM_logic b_MM_logic 2 ((some .boolean)) ∈ lw_g := List.mem_filter.mpr ⟨List.mem_append_right _ (List.mem_of_getElem? (i := 976) rfl), rfl⟩
theorem wd_975 : (Cond.instanceMethod ⟨"CellMapperModel", "logic", "(I)Z"⟩) ∈ lw_g := List.mem_filter.mpr ⟨List.mem_append_right _ (List.mem_of_getElem? (i := 975) (by decide +kernel)), rfl⟩
theorem ws_MM_logic : Cond.selects y_MM_logic.cls y_MM_logic y_MM_logic ∈ lw_g := List.mem_filter.mpr ⟨List.mem_append_left _ (List.mem_of_getElem? (i := 44) (by decide +kernel)), rfl⟩
theorem fy_MM_logic : zY y_MM_logic b_MM_logic 2 ((some .boolean)) 1 := ⟨wd_975, ws_MM_logic, wd_7, wc_MM_logic, ⟨by decide +kernel, by decide +kernel, by decide +kernel⟩⟩
def y_MM_choose : MethodName := ⟨"CellMapperModel", "choose", "(I)V"⟩
abbrev b_MM_choose : ByteArray := prog_12_method_29_code
set_option maxRecDepth 20000 in
theorem wc_MM_choose : Cond.code y_MM_choose b_MM_choose 6 ((none : Option ClassFile.FieldType)) ∈ lw_g := List.mem_filter.mpr ⟨List.mem_append_right _ (List.mem_of_getElem? (i := 980) rfl), rfl⟩
theorem wd_979 : (Cond.instanceMethod ⟨"CellMapperModel", "choose", "(I)V"⟩) ∈ lw_g := List.mem_filter.mpr ⟨List.mem_append_right _ (List.mem_of_getElem? (i := 979) (by decide +kernel)), rfl⟩
theorem ws_MM_choose : Cond.selects y_MM_choose.cls y_MM_choose y_MM_choose ∈ lw_g := List.mem_filter.mpr ⟨List.mem_append_left _ (List.mem_of_getElem? (i := 45) (by decide +kernel)), rfl⟩
theorem fy_MM_choose : zY y_MM_choose b_MM_choose 6 ((none : Option ClassFile.FieldType)) 1 := ⟨wd_979, ws_MM_choose, wd_7, wc_MM_choose, ⟨by decide +kernel, by decide +kernel, by decide +kernel⟩⟩
def y_MM_nands : MethodName := ⟨"CellMapperModel", "nands", "(I)I"⟩
abbrev b_MM_nands : ByteArray := prog_12_method_27_code
set_option maxRecDepth 20000 in
theorem wc_MM_nands : Cond.code y_MM_nands b_MM_nands 4 ((some .int)) ∈ lw_g := List.mem_filter.mpr ⟨List.mem_append_right _ (List.mem_of_getElem? (i := 985) rfl), rfl⟩
theorem wd_984 : (Cond.instanceMethod ⟨"CellMapperModel", "nands", "(I)I"⟩) ∈ lw_g := List.mem_filter.mpr ⟨List.mem_append_right _ (List.mem_of_getElem? (i := 984) (by decide +kernel)), rfl⟩
theorem ws_MM_nands : Cond.selects y_MM_nands.cls y_MM_nands y_MM_nands ∈ lw_g := List.mem_filter.mpr ⟨List.mem_append_left _ (List.mem_of_getElem? (i := 46) (by decide +kernel)), rfl⟩
theorem fy_MM_nands : zY y_MM_nands b_MM_nands 4 ((some .int)) 1 := ⟨wd_984, ws_MM_nands, wd_7, wc_MM_nands, ⟨by decide +kernel, by decide +kernel, by decide +kernel⟩⟩
def y_MM_lay : MethodName := ⟨"CellMapperModel", "lay", "(III)I"⟩
abbrev b_MM_lay : ByteArray := prog_12_method_28_code
set_option maxRecDepth 20000 in
theorem wc_MM_lay : Cond.code y_MM_lay b_MM_lay 10 ((some .int)) ∈ lw_g := List.mem_filter.mpr ⟨List.mem_append_right _ (List.mem_of_getElem? (i := 989) rfl), rfl⟩
theorem wd_988 : (Cond.instanceMethod ⟨"CellMapperModel", "lay", "(III)I"⟩) ∈ lw_g := List.mem_filter.mpr ⟨List.mem_append_right _ (List.mem_of_getElem? (i := 988) (by decide +kernel)), rfl⟩
theorem ws_MM_lay : Cond.selects y_MM_lay.cls y_MM_lay y_MM_lay ∈ lw_g := List.mem_filter.mpr ⟨List.mem_append_left _ (List.mem_of_getElem? (i := 47) (by decide +kernel)), rfl⟩
theorem fy_MM_lay : zY y_MM_lay b_MM_lay 10 ((some .int)) 3 := ⟨wd_988, ws_MM_lay, wd_7, wc_MM_lay, ⟨by decide +kernel, by decide +kernel, by decide +kernel⟩⟩
def y_MM_connect : MethodName := ⟨"CellMapperModel", "connect", "(II)V"⟩
abbrev b_MM_connect : ByteArray := prog_12_method_30_code
set_option maxRecDepth 20000 in
theorem wc_MM_connect : Cond.code y_MM_connect b_MM_connect 9 ((none : Option ClassFile.FieldType)) ∈ lw_g := List.mem_filter.mpr ⟨List.mem_append_right _ (List.mem_of_getElem? (i := 993) rfl), rfl⟩
theorem wd_992 : (Cond.instanceMethod ⟨"CellMapperModel", "connect", "(II)V"⟩) ∈ lw_g := List.mem_filter.mpr ⟨List.mem_append_right _ (List.mem_of_getElem? (i := 992) (by decide +kernel)), rfl⟩
theorem ws_MM_connect : Cond.selects y_MM_connect.cls y_MM_connect y_MM_connect ∈ lw_g := List.mem_filter.mpr ⟨List.mem_append_left _ (List.mem_of_getElem? (i := 48) (by decide +kernel)), rfl⟩
theorem fy_MM_connect : zY y_MM_connect b_MM_connect 9 ((none : Option ClassFile.FieldType)) 2 := ⟨wd_992, ws_MM_connect, wd_7, wc_MM_connect, ⟨by decide +kernel, by decide +kernel, by decide +kernel⟩⟩
def y_MM_measure : MethodName := ⟨"CellMapperModel", "measure", "()V"⟩
abbrev b_MM_measure : ByteArray := prog_12_method_34_code
set_option maxRecDepth 20000 in
theorem wc_MM_measure : Cond.code y_MM_measure b_MM_measure 4 ((none : Option ClassFile.FieldType)) ∈ lw_g := List.mem_filter.mpr ⟨List.mem_append_right _ (List.mem_of_getElem? (i := 997) rfl), rfl⟩
theorem wd_996 : (Cond.instanceMethod ⟨"CellMapperModel", "measure", "()V"⟩) ∈ lw_g := List.mem_filter.mpr ⟨List.mem_append_right _ (List.mem_of_getElem? (i := 996) (by decide +kernel)), rfl⟩
theorem ws_MM_measure : Cond.selects y_MM_measure.cls y_MM_measure y_MM_measure ∈ lw_g := List.mem_filter.mpr ⟨List.mem_append_left _ (List.mem_of_getElem? (i := 49) (by decide +kernel)), rfl⟩
theorem fy_MM_measure : zY y_MM_measure b_MM_measure 4 ((none : Option ClassFile.FieldType)) 0 := ⟨wd_996, ws_MM_measure, wd_7, wc_MM_measure, ⟨by decide +kernel, by decide +kernel, by decide +kernel⟩⟩
def y_MM_delay : MethodName := ⟨"CellMapperModel", "delay", "(I)I"⟩
abbrev b_MM_delay : ByteArray := prog_12_method_32_code
set_option maxRecDepth 20000 in
theorem wc_MM_delay : Cond.code y_MM_delay b_MM_delay 2 ((some .int)) ∈ lw_g := List.mem_filter.mpr ⟨List.mem_append_right _ (List.mem_of_getElem? (i := 1001) rfl), rfl⟩
theorem wd_1000 : (Cond.instanceMethod ⟨"CellMapperModel", "delay", "(I)I"⟩) ∈ lw_g := List.mem_filter.mpr ⟨List.mem_append_right _ (List.mem_of_getElem? (i := 1000) (by decide +kernel)), rfl⟩
theorem ws_MM_delay : Cond.selects y_MM_delay.cls y_MM_delay y_MM_delay ∈ lw_g := List.mem_filter.mpr ⟨List.mem_append_left _ (List.mem_of_getElem? (i := 50) (by decide +kernel)), rfl⟩
theorem fy_MM_delay : zY y_MM_delay b_MM_delay 2 ((some .int)) 1 := ⟨wd_1000, ws_MM_delay, wd_7, wc_MM_delay, ⟨by decide +kernel, by decide +kernel, by decide +kernel⟩⟩
def y_MM_shorter : MethodName := ⟨"CellMapperModel", "shorter", "(III)V"⟩
abbrev b_MM_shorter : ByteArray := prog_12_method_33_code
set_option maxRecDepth 20000 in
theorem wc_MM_shorter : Cond.code y_MM_shorter b_MM_shorter 4 ((none : Option ClassFile.FieldType)) ∈ lw_g := List.mem_filter.mpr ⟨List.mem_append_right _ (List.mem_of_getElem? (i := 1005) rfl), rfl⟩
theorem wd_1004 : (Cond.instanceMethod ⟨"CellMapperModel", "shorter", "(III)V"⟩) ∈ lw_g := List.mem_filter.mpr ⟨List.mem_append_right _ (List.mem_of_getElem? (i := 1004) (by decide +kernel)), rfl⟩
theorem ws_MM_shorter : Cond.selects y_MM_shorter.cls y_MM_shorter y_MM_shorter ∈ lw_g := List.mem_filter.mpr ⟨List.mem_append_left _ (List.mem_of_getElem? (i := 51) (by decide +kernel)), rfl⟩
theorem fy_MM_shorter : zY y_MM_shorter b_MM_shorter 4 ((none : Option ClassFile.FieldType)) 3 := ⟨wd_1004, ws_MM_shorter, wd_7, wc_MM_shorter, ⟨by decide +kernel, by decide +kernel, by decide +kernel⟩⟩
def y_MM_shorten : MethodName := ⟨"CellMapperModel", "shorten", "()V"⟩
abbrev b_MM_shorten : ByteArray := prog_12_method_37_code
set_option maxRecDepth 20000 in
theorem wc_MM_shorten : Cond.code y_MM_shorten b_MM_shorten 4 ((none : Option ClassFile.FieldType)) ∈ lw_g := List.mem_filter.mpr ⟨List.mem_append_right _ (List.mem_of_getElem? (i := 1009) rfl), rfl⟩
theorem wd_1008 : (Cond.instanceMethod ⟨"CellMapperModel", "shorten", "()V"⟩) ∈ lw_g := List.mem_filter.mpr ⟨List.mem_append_right _ (List.mem_of_getElem? (i := 1008) (by decide +kernel)), rfl⟩
theorem ws_MM_shorten : Cond.selects y_MM_shorten.cls y_MM_shorten y_MM_shorten ∈ lw_g := List.mem_filter.mpr ⟨List.mem_append_left _ (List.mem_of_getElem? (i := 52) (by decide +kernel)), rfl⟩
theorem fy_MM_shorten : zY y_MM_shorten b_MM_shorten 4 ((none : Option ClassFile.FieldType)) 0 := ⟨wd_1008, ws_MM_shorten, wd_7, wc_MM_shorten, ⟨by decide +kernel, by decide +kernel, by decide +kernel⟩⟩
def y_MM_reachable : MethodName := ⟨"CellMapperModel", "reachable", "(I)Z"⟩
abbrev b_MM_reachable : ByteArray := prog_12_method_36_code
set_option maxRecDepth 20000 in
theorem wc_MM_reachable : Cond.code y_MM_reachable b_MM_reachable 4 ((some .boolean)) ∈ lw_g := List.mem_filter.mpr ⟨List.mem_append_right _ (List.mem_of_getElem? (i := 1013) rfl), rfl⟩
theorem wd_1012 : (Cond.instanceMethod ⟨"CellMapperModel", "reachable", "(I)Z"⟩) ∈ lw_g := List.mem_filter.mpr ⟨List.mem_append_right _ (List.mem_of_getElem? (i := 1012) (by decide +kernel)), rfl⟩
theorem ws_MM_reachable : Cond.selects y_MM_reachable.cls y_MM_reachable y_MM_reachable ∈ lw_g := List.mem_filter.mpr ⟨List.mem_append_left _ (List.mem_of_getElem? (i := 53) (by decide +kernel)), rfl⟩
theorem fy_MM_reachable : zY y_MM_reachable b_MM_reachable 4 ((some .boolean)) 1 := ⟨wd_1012, ws_MM_reachable, wd_7, wc_MM_reachable, ⟨by decide +kernel, by decide +kernel, by decide +kernel⟩⟩
def y_MM_raise : MethodName := ⟨"CellMapperModel", "raise", "(I)Z"⟩
abbrev b_MM_raise : ByteArray := prog_12_method_35_code
set_option maxRecDepth 20000 in
theorem wc_MM_raise : Cond.code y_MM_raise b_MM_raise 7 ((some .boolean)) ∈ lw_g := List.mem_filter.mpr ⟨List.mem_append_right _ (List.mem_of_getElem? (i := 1017) rfl), rfl⟩
theorem wd_1016 : (Cond.instanceMethod ⟨"CellMapperModel", "raise", "(I)Z"⟩) ∈ lw_g := List.mem_filter.mpr ⟨List.mem_append_right _ (List.mem_of_getElem? (i := 1016) (by decide +kernel)), rfl⟩
theorem ws_MM_raise : Cond.selects y_MM_raise.cls y_MM_raise y_MM_raise ∈ lw_g := List.mem_filter.mpr ⟨List.mem_append_left _ (List.mem_of_getElem? (i := 54) (by decide +kernel)), rfl⟩
theorem fy_MM_raise : zY y_MM_raise b_MM_raise 7 ((some .boolean)) 1 := ⟨wd_1016, ws_MM_raise, wd_7, wc_MM_raise, ⟨by decide +kernel, by decide +kernel, by decide +kernel⟩⟩
def y_MM_retime : MethodName := ⟨"CellMapperModel", "retime", "()V"⟩
abbrev b_MM_retime : ByteArray := prog_12_method_43_code
set_option maxRecDepth 20000 in
theorem wc_MM_retime : Cond.code y_MM_retime b_MM_retime 6 ((none : Option ClassFile.FieldType)) ∈ lw_g := List.mem_filter.mpr ⟨List.mem_append_right _ (List.mem_of_getElem? (i := 1021) rfl), rfl⟩
theorem wd_1020 : (Cond.instanceMethod ⟨"CellMapperModel", "retime", "()V"⟩) ∈ lw_g := List.mem_filter.mpr ⟨List.mem_append_right _ (List.mem_of_getElem? (i := 1020) (by decide +kernel)), rfl⟩
theorem ws_MM_retime : Cond.selects y_MM_retime.cls y_MM_retime y_MM_retime ∈ lw_g := List.mem_filter.mpr ⟨List.mem_append_left _ (List.mem_of_getElem? (i := 55) (by decide +kernel)), rfl⟩
theorem fy_MM_retime : zY y_MM_retime b_MM_retime 6 ((none : Option ClassFile.FieldType)) 0 := ⟨wd_1020, ws_MM_retime, wd_7, wc_MM_retime, ⟨by decide +kernel, by decide +kernel, by decide +kernel⟩⟩
def y_MM_give : MethodName := ⟨"CellMapperModel", "give", "(I)Z"⟩
abbrev b_MM_give : ByteArray := prog_12_method_42_code
set_option maxRecDepth 20000 in
theorem wc_MM_give : Cond.code y_MM_give b_MM_give 7 ((some .boolean)) ∈ lw_g := List.mem_filter.mpr ⟨List.mem_append_right _ (List.mem_of_getElem? (i := 1025) rfl), rfl⟩
theorem wd_1024 : (Cond.instanceMethod ⟨"CellMapperModel", "give", "(I)Z"⟩) ∈ lw_g := List.mem_filter.mpr ⟨List.mem_append_right _ (List.mem_of_getElem? (i := 1024) (by decide +kernel)), rfl⟩
theorem ws_MM_give : Cond.selects y_MM_give.cls y_MM_give y_MM_give ∈ lw_g := List.mem_filter.mpr ⟨List.mem_append_left _ (List.mem_of_getElem? (i := 56) (by decide +kernel)), rfl⟩
theorem fy_MM_give : zY y_MM_give b_MM_give 7 ((some .boolean)) 1 := ⟨wd_1024, ws_MM_give, wd_7, wc_MM_give, ⟨by decide +kernel, by decide +kernel, by decide +kernel⟩⟩
def y_MM_pinsOf : MethodName := ⟨"CellMapperModel", "pinsOf", "(I)I"⟩
abbrev b_MM_pinsOf : ByteArray := prog_12_method_40_code
set_option maxRecDepth 20000 in
theorem wc_MM_pinsOf : Cond.code y_MM_pinsOf b_MM_pinsOf 4 ((some .int)) ∈ lw_g := List.mem_filter.mpr ⟨List.mem_append_right _ (List.mem_of_getElem? (i := 1029) rfl), rfl⟩
theorem wd_1028 : (Cond.instanceMethod ⟨"CellMapperModel", "pinsOf", "(I)I"⟩) ∈ lw_g := List.mem_filter.mpr ⟨List.mem_append_right _ (List.mem_of_getElem? (i := 1028) (by decide +kernel)), rfl⟩
theorem ws_MM_pinsOf : Cond.selects y_MM_pinsOf.cls y_MM_pinsOf y_MM_pinsOf ∈ lw_g := List.mem_filter.mpr ⟨List.mem_append_left _ (List.mem_of_getElem? (i := 57) (by decide +kernel)), rfl⟩
theorem fy_MM_pinsOf : zY y_MM_pinsOf b_MM_pinsOf 4 ((some .int)) 1 := ⟨wd_1028, ws_MM_pinsOf, wd_7, wc_MM_pinsOf, ⟨by decide +kernel, by decide +kernel, by decide +kernel⟩⟩
def y_MM_told : MethodName := ⟨"CellMapperModel", "told", "(II)Z"⟩
abbrev b_MM_told : ByteArray := prog_12_method_39_code
set_option maxRecDepth 20000 in
theorem wc_MM_told : Cond.code y_MM_told b_MM_told 3 ((some .boolean)) ∈ lw_g := List.mem_filter.mpr ⟨List.mem_append_right _ (List.mem_of_getElem? (i := 1033) rfl), rfl⟩
theorem wd_1032 : (Cond.instanceMethod ⟨"CellMapperModel", "told", "(II)Z"⟩) ∈ lw_g := List.mem_filter.mpr ⟨List.mem_append_right _ (List.mem_of_getElem? (i := 1032) (by decide +kernel)), rfl⟩
theorem ws_MM_told : Cond.selects y_MM_told.cls y_MM_told y_MM_told ∈ lw_g := List.mem_filter.mpr ⟨List.mem_append_left _ (List.mem_of_getElem? (i := 58) (by decide +kernel)), rfl⟩
theorem fy_MM_told : zY y_MM_told b_MM_told 3 ((some .boolean)) 2 := ⟨wd_1032, ws_MM_told, wd_7, wc_MM_told, ⟨by decide +kernel, by decide +kernel, by decide +kernel⟩⟩
def y_MM_comes : MethodName := ⟨"CellMapperModel", "comes", "(II)I"⟩
abbrev b_MM_comes : ByteArray := prog_12_method_38_code
set_option maxRecDepth 20000 in
theorem wc_MM_comes : Cond.code y_MM_comes b_MM_comes 4 ((some .int)) ∈ lw_g := List.mem_filter.mpr ⟨List.mem_append_right _ (List.mem_of_getElem? (i := 1037) rfl), rfl⟩
theorem wd_1036 : (Cond.instanceMethod ⟨"CellMapperModel", "comes", "(II)I"⟩) ∈ lw_g := List.mem_filter.mpr ⟨List.mem_append_right _ (List.mem_of_getElem? (i := 1036) (by decide +kernel)), rfl⟩
theorem ws_MM_comes : Cond.selects y_MM_comes.cls y_MM_comes y_MM_comes ∈ lw_g := List.mem_filter.mpr ⟨List.mem_append_left _ (List.mem_of_getElem? (i := 59) (by decide +kernel)), rfl⟩
theorem fy_MM_comes : zY y_MM_comes b_MM_comes 4 ((some .int)) 2 := ⟨wd_1036, ws_MM_comes, wd_7, wc_MM_comes, ⟨by decide +kernel, by decide +kernel, by decide +kernel⟩⟩
def y_MM_work : MethodName := ⟨"CellMapperModel", "work", "(II)I"⟩
abbrev b_MM_work : ByteArray := prog_12_method_41_code
set_option maxRecDepth 20000 in
theorem wc_MM_work : Cond.code y_MM_work b_MM_work 7 ((some .int)) ∈ lw_g := List.mem_filter.mpr ⟨List.mem_append_right _ (List.mem_of_getElem? (i := 1041) rfl), rfl⟩
theorem wd_1040 : (Cond.instanceMethod ⟨"CellMapperModel", "work", "(II)I"⟩) ∈ lw_g := List.mem_filter.mpr ⟨List.mem_append_right _ (List.mem_of_getElem? (i := 1040) (by decide +kernel)), rfl⟩
theorem ws_MM_work : Cond.selects y_MM_work.cls y_MM_work y_MM_work ∈ lw_g := List.mem_filter.mpr ⟨List.mem_append_left _ (List.mem_of_getElem? (i := 60) (by decide +kernel)), rfl⟩
theorem fy_MM_work : zY y_MM_work b_MM_work 7 ((some .int)) 2 := ⟨wd_1040, ws_MM_work, wd_7, wc_MM_work, ⟨by decide +kernel, by decide +kernel, by decide +kernel⟩⟩
def y_MM_gates : MethodName := ⟨"CellMapperModel", "gates", "()I"⟩
abbrev b_MM_gates : ByteArray := prog_12_method_47_code
set_option maxRecDepth 20000 in
theorem wc_MM_gates : Cond.code y_MM_gates b_MM_gates 3 ((some .int)) ∈ lw_g := List.mem_filter.mpr ⟨List.mem_append_right _ (List.mem_of_getElem? (i := 1045) rfl), rfl⟩
theorem wd_1044 : (Cond.instanceMethod ⟨"CellMapperModel", "gates", "()I"⟩) ∈ lw_g := List.mem_filter.mpr ⟨List.mem_append_right _ (List.mem_of_getElem? (i := 1044) (by decide +kernel)), rfl⟩
theorem ws_MM_gates : Cond.selects y_MM_gates.cls y_MM_gates y_MM_gates ∈ lw_g := List.mem_filter.mpr ⟨List.mem_append_left _ (List.mem_of_getElem? (i := 61) (by decide +kernel)), rfl⟩
theorem fy_MM_gates : zY y_MM_gates b_MM_gates 3 ((some .int)) 0 := ⟨wd_1044, ws_MM_gates, wd_7, wc_MM_gates, ⟨by decide +kernel, by decide +kernel, by decide +kernel⟩⟩
def y_MM_area : MethodName := ⟨"CellMapperModel", "area", "()I"⟩
abbrev b_MM_area : ByteArray := prog_12_method_49_code
set_option maxRecDepth 20000 in
theorem wc_MM_area : Cond.code y_MM_area b_MM_area 3 ((some .int)) ∈ lw_g := List.mem_filter.mpr ⟨List.mem_append_right _ (List.mem_of_getElem? (i := 1049) rfl), rfl⟩
theorem wd_1047 : (Cond.instanceMethod ⟨"CellMapperModel", "area", "()I"⟩) ∈ lw_g := List.mem_filter.mpr ⟨List.mem_append_right _ (List.mem_of_getElem? (i := 1047) (by decide +kernel)), rfl⟩
theorem wd_1048 : (Cond.selects "CellMapperModel" ⟨"CellMapperModel", "area", "()I"⟩ ⟨"CellMapperModel", "area", "()I"⟩) ∈ lw_g := List.mem_filter.mpr ⟨List.mem_append_right _ (List.mem_of_getElem? (i := 1048) (by decide +kernel)), rfl⟩
theorem fy_MM_area : zY y_MM_area b_MM_area 3 ((some .int)) 0 := ⟨wd_1047, wd_1048, wd_7, wc_MM_area, ⟨by decide +kernel, by decide +kernel, by decide +kernel⟩⟩
def y_MM_cellAt : MethodName := ⟨"CellMapperModel", "cellAt", "(I)I"⟩
abbrev b_MM_cellAt : ByteArray := prog_12_method_51_code
set_option maxRecDepth 20000 in
theorem wc_MM_cellAt : Cond.code y_MM_cellAt b_MM_cellAt 2 ((some .int)) ∈ lw_g := List.mem_filter.mpr ⟨List.mem_append_right _ (List.mem_of_getElem? (i := 1053) rfl), rfl⟩
theorem wd_1051 : (Cond.instanceMethod ⟨"CellMapperModel", "cellAt", "(I)I"⟩) ∈ lw_g := List.mem_filter.mpr ⟨List.mem_append_right _ (List.mem_of_getElem? (i := 1051) (by decide +kernel)), rfl⟩
theorem wd_1052 : (Cond.selects "CellMapperModel" ⟨"CellMapperModel", "cellAt", "(I)I"⟩ ⟨"CellMapperModel", "cellAt", "(I)I"⟩) ∈ lw_g := List.mem_filter.mpr ⟨List.mem_append_right _ (List.mem_of_getElem? (i := 1052) (by decide +kernel)), rfl⟩
theorem fy_MM_cellAt : zY y_MM_cellAt b_MM_cellAt 2 ((some .int)) 1 := ⟨wd_1051, wd_1052, wd_7, wc_MM_cellAt, ⟨by decide +kernel, by decide +kernel, by decide +kernel⟩⟩
def y_MM_isGate : MethodName := ⟨"CellMapperModel", "isGate", "(I)Z"⟩
abbrev b_MM_isGate : ByteArray := prog_12_method_50_code
set_option maxRecDepth 20000 in
theorem wc_MM_isGate : Cond.code y_MM_isGate b_MM_isGate 2 ((some .boolean)) ∈ lw_g := List.mem_filter.mpr ⟨List.mem_append_right _ (List.mem_of_getElem? (i := 1057) rfl), rfl⟩
theorem wd_1056 : (Cond.instanceMethod ⟨"CellMapperModel", "isGate", "(I)Z"⟩) ∈ lw_g := List.mem_filter.mpr ⟨List.mem_append_right _ (List.mem_of_getElem? (i := 1056) (by decide +kernel)), rfl⟩
theorem ws_MM_isGate : Cond.selects y_MM_isGate.cls y_MM_isGate y_MM_isGate ∈ lw_g := List.mem_filter.mpr ⟨List.mem_append_left _ (List.mem_of_getElem? (i := 62) (by decide +kernel)), rfl⟩
theorem fy_MM_isGate : zY y_MM_isGate b_MM_isGate 2 ((some .boolean)) 1 := ⟨wd_1056, ws_MM_isGate, wd_7, wc_MM_isGate, ⟨by decide +kernel, by decide +kernel, by decide +kernel⟩⟩
def y_MM_period : MethodName := ⟨"CellMapperModel", "period", "()I"⟩
abbrev b_MM_period : ByteArray := prog_12_method_52_code
set_option maxRecDepth 20000 in
theorem wc_MM_period : Cond.code y_MM_period b_MM_period 1 ((some .int)) ∈ lw_g := List.mem_filter.mpr ⟨List.mem_append_right _ (List.mem_of_getElem? (i := 1061) rfl), rfl⟩
theorem wd_1059 : (Cond.instanceMethod ⟨"CellMapperModel", "period", "()I"⟩) ∈ lw_g := List.mem_filter.mpr ⟨List.mem_append_right _ (List.mem_of_getElem? (i := 1059) (by decide +kernel)), rfl⟩
theorem wd_1060 : (Cond.selects "CellMapperModel" ⟨"CellMapperModel", "period", "()I"⟩ ⟨"CellMapperModel", "period", "()I"⟩) ∈ lw_g := List.mem_filter.mpr ⟨List.mem_append_right _ (List.mem_of_getElem? (i := 1060) (by decide +kernel)), rfl⟩
theorem fy_MM_period : zY y_MM_period b_MM_period 1 ((some .int)) 0 := ⟨wd_1059, wd_1060, wd_7, wc_MM_period, ⟨by decide +kernel, by decide +kernel, by decide +kernel⟩⟩
def y_MM_shortest : MethodName := ⟨"CellMapperModel", "shortest", "()I"⟩
abbrev b_MM_shortest : ByteArray := prog_12_method_53_code
set_option maxRecDepth 20000 in
theorem wc_MM_shortest : Cond.code y_MM_shortest b_MM_shortest 1 ((some .int)) ∈ lw_g := List.mem_filter.mpr ⟨List.mem_append_right _ (List.mem_of_getElem? (i := 1065) rfl), rfl⟩
theorem wd_1063 : (Cond.instanceMethod ⟨"CellMapperModel", "shortest", "()I"⟩) ∈ lw_g := List.mem_filter.mpr ⟨List.mem_append_right _ (List.mem_of_getElem? (i := 1063) (by decide +kernel)), rfl⟩
theorem wd_1064 : (Cond.selects "CellMapperModel" ⟨"CellMapperModel", "shortest", "()I"⟩ ⟨"CellMapperModel", "shortest", "()I"⟩) ∈ lw_g := List.mem_filter.mpr ⟨List.mem_append_right _ (List.mem_of_getElem? (i := 1064) (by decide +kernel)), rfl⟩
theorem fy_MM_shortest : zY y_MM_shortest b_MM_shortest 1 ((some .int)) 0 := ⟨wd_1063, wd_1064, wd_7, wc_MM_shortest, ⟨by decide +kernel, by decide +kernel, by decide +kernel⟩⟩
def y_MM_moves : MethodName := ⟨"CellMapperModel", "moves", "(I)I"⟩
abbrev b_MM_moves : ByteArray := prog_12_method_54_code
set_option maxRecDepth 20000 in
theorem wc_MM_moves : Cond.code y_MM_moves b_MM_moves 2 ((some .int)) ∈ lw_g := List.mem_filter.mpr ⟨List.mem_append_right _ (List.mem_of_getElem? (i := 1069) rfl), rfl⟩
theorem wd_1067 : (Cond.instanceMethod ⟨"CellMapperModel", "moves", "(I)I"⟩) ∈ lw_g := List.mem_filter.mpr ⟨List.mem_append_right _ (List.mem_of_getElem? (i := 1067) (by decide +kernel)), rfl⟩
theorem wd_1068 : (Cond.selects "CellMapperModel" ⟨"CellMapperModel", "moves", "(I)I"⟩ ⟨"CellMapperModel", "moves", "(I)I"⟩) ∈ lw_g := List.mem_filter.mpr ⟨List.mem_append_right _ (List.mem_of_getElem? (i := 1068) (by decide +kernel)), rfl⟩
theorem fy_MM_moves : zY y_MM_moves b_MM_moves 2 ((some .int)) 1 := ⟨wd_1067, wd_1068, wd_7, wc_MM_moves, ⟨by decide +kernel, by decide +kernel, by decide +kernel⟩⟩
def y_MM_latches : MethodName := ⟨"CellMapperModel", "latches", "(II)J"⟩
abbrev b_MM_latches : ByteArray := prog_12_method_55_code
set_option maxRecDepth 20000 in
theorem wc_MM_latches : Cond.code y_MM_latches b_MM_latches 5 ((some .long)) ∈ lw_g := List.mem_filter.mpr ⟨List.mem_append_right _ (List.mem_of_getElem? (i := 1073) rfl), rfl⟩
theorem wd_1071 : (Cond.instanceMethod ⟨"CellMapperModel", "latches", "(II)J"⟩) ∈ lw_g := List.mem_filter.mpr ⟨List.mem_append_right _ (List.mem_of_getElem? (i := 1071) (by decide +kernel)), rfl⟩
theorem wd_1072 : (Cond.selects "CellMapperModel" ⟨"CellMapperModel", "latches", "(II)J"⟩ ⟨"CellMapperModel", "latches", "(II)J"⟩) ∈ lw_g := List.mem_filter.mpr ⟨List.mem_append_right _ (List.mem_of_getElem? (i := 1072) (by decide +kernel)), rfl⟩
theorem fy_MM_latches : zY y_MM_latches b_MM_latches 5 ((some .long)) 2 := ⟨wd_1071, wd_1072, wd_7, wc_MM_latches, ⟨by decide +kernel, by decide +kernel, by decide +kernel⟩⟩
def y_MM_clock : MethodName := ⟨"CellMapperModel", "clock", "(I)I"⟩
abbrev b_MM_clock : ByteArray := prog_12_method_57_code
set_option maxRecDepth 20000 in
theorem wc_MM_clock : Cond.code y_MM_clock b_MM_clock 5 ((some .int)) ∈ lw_g := List.mem_filter.mpr ⟨List.mem_append_right _ (List.mem_of_getElem? (i := 1080) rfl), rfl⟩
theorem wd_1078 : (Cond.instanceMethod ⟨"CellMapperModel", "clock", "(I)I"⟩) ∈ lw_g := List.mem_filter.mpr ⟨List.mem_append_right _ (List.mem_of_getElem? (i := 1078) (by decide +kernel)), rfl⟩
theorem wd_1079 : (Cond.selects "CellMapperModel" ⟨"CellMapperModel", "clock", "(I)I"⟩ ⟨"CellMapperModel", "clock", "(I)I"⟩) ∈ lw_g := List.mem_filter.mpr ⟨List.mem_append_right _ (List.mem_of_getElem? (i := 1079) (by decide +kernel)), rfl⟩
theorem fy_MM_clock : zY y_MM_clock b_MM_clock 5 ((some .int)) 1 := ⟨wd_1078, wd_1079, wd_7, wc_MM_clock, ⟨by decide +kernel, by decide +kernel, by decide +kernel⟩⟩
def y_MM_entering : MethodName := ⟨"CellMapperModel", "entering", "(II)I"⟩
abbrev b_MM_entering : ByteArray := prog_12_method_56_code
set_option maxRecDepth 20000 in
theorem wc_MM_entering : Cond.code y_MM_entering b_MM_entering 5 ((some .int)) ∈ lw_g := List.mem_filter.mpr ⟨List.mem_append_right _ (List.mem_of_getElem? (i := 1084) rfl), rfl⟩
theorem wd_1083 : (Cond.instanceMethod ⟨"CellMapperModel", "entering", "(II)I"⟩) ∈ lw_g := List.mem_filter.mpr ⟨List.mem_append_right _ (List.mem_of_getElem? (i := 1083) (by decide +kernel)), rfl⟩
theorem ws_MM_entering : Cond.selects y_MM_entering.cls y_MM_entering y_MM_entering ∈ lw_g := List.mem_filter.mpr ⟨List.mem_append_left _ (List.mem_of_getElem? (i := 63) (by decide +kernel)), rfl⟩
theorem fy_MM_entering : zY y_MM_entering b_MM_entering 5 ((some .int)) 2 := ⟨wd_1083, ws_MM_entering, wd_7, wc_MM_entering, ⟨by decide +kernel, by decide +kernel, by decide +kernel⟩⟩
def y_MM_clockRetimed : MethodName := ⟨"CellMapperModel", "clockRetimed", "(I)I"⟩
abbrev b_MM_clockRetimed : ByteArray := prog_12_method_61_code
set_option maxRecDepth 20000 in
theorem wc_MM_clockRetimed : Cond.code y_MM_clockRetimed b_MM_clockRetimed 5 ((some .int)) ∈ lw_g := List.mem_filter.mpr ⟨List.mem_append_right _ (List.mem_of_getElem? (i := 1088) rfl), rfl⟩
theorem wd_1086 : (Cond.instanceMethod ⟨"CellMapperModel", "clockRetimed", "(I)I"⟩) ∈ lw_g := List.mem_filter.mpr ⟨List.mem_append_right _ (List.mem_of_getElem? (i := 1086) (by decide +kernel)), rfl⟩
theorem wd_1087 : (Cond.selects "CellMapperModel" ⟨"CellMapperModel", "clockRetimed", "(I)I"⟩ ⟨"CellMapperModel", "clockRetimed", "(I)I"⟩) ∈ lw_g := List.mem_filter.mpr ⟨List.mem_append_right _ (List.mem_of_getElem? (i := 1087) (by decide +kernel)), rfl⟩
theorem fy_MM_clockRetimed : zY y_MM_clockRetimed b_MM_clockRetimed 5 ((some .int)) 1 := ⟨wd_1086, wd_1087, wd_7, wc_MM_clockRetimed, ⟨by decide +kernel, by decide +kernel, by decide +kernel⟩⟩
def y_MM_worked : MethodName := ⟨"CellMapperModel", "worked", "(I)Z"⟩
abbrev b_MM_worked : ByteArray := prog_12_method_60_code
set_option maxRecDepth 20000 in
theorem wc_MM_worked : Cond.code y_MM_worked b_MM_worked 5 ((some .boolean)) ∈ lw_g := List.mem_filter.mpr ⟨List.mem_append_right _ (List.mem_of_getElem? (i := 1092) rfl), rfl⟩
theorem wd_1091 : (Cond.instanceMethod ⟨"CellMapperModel", "worked", "(I)Z"⟩) ∈ lw_g := List.mem_filter.mpr ⟨List.mem_append_right _ (List.mem_of_getElem? (i := 1091) (by decide +kernel)), rfl⟩
theorem ws_MM_worked : Cond.selects y_MM_worked.cls y_MM_worked y_MM_worked ∈ lw_g := List.mem_filter.mpr ⟨List.mem_append_left _ (List.mem_of_getElem? (i := 64) (by decide +kernel)), rfl⟩
theorem fy_MM_worked : zY y_MM_worked b_MM_worked 5 ((some .boolean)) 1 := ⟨wd_1091, ws_MM_worked, wd_7, wc_MM_worked, ⟨by decide +kernel, by decide +kernel, by decide +kernel⟩⟩
def y_MM_arrived : MethodName := ⟨"CellMapperModel", "arrived", "(I)Z"⟩
abbrev b_MM_arrived : ByteArray := prog_12_method_58_code
set_option maxRecDepth 20000 in
theorem wc_MM_arrived : Cond.code y_MM_arrived b_MM_arrived 2 ((some .boolean)) ∈ lw_g := List.mem_filter.mpr ⟨List.mem_append_right _ (List.mem_of_getElem? (i := 1096) rfl), rfl⟩
theorem wd_1095 : (Cond.instanceMethod ⟨"CellMapperModel", "arrived", "(I)Z"⟩) ∈ lw_g := List.mem_filter.mpr ⟨List.mem_append_right _ (List.mem_of_getElem? (i := 1095) (by decide +kernel)), rfl⟩
theorem ws_MM_arrived : Cond.selects y_MM_arrived.cls y_MM_arrived y_MM_arrived ∈ lw_g := List.mem_filter.mpr ⟨List.mem_append_left _ (List.mem_of_getElem? (i := 65) (by decide +kernel)), rfl⟩
theorem fy_MM_arrived : zY y_MM_arrived b_MM_arrived 2 ((some .boolean)) 1 := ⟨wd_1095, ws_MM_arrived, wd_7, wc_MM_arrived, ⟨by decide +kernel, by decide +kernel, by decide +kernel⟩⟩
def y_MM_ending : MethodName := ⟨"CellMapperModel", "ending", "(I)I"⟩
abbrev b_MM_ending : ByteArray := prog_12_method_59_code
set_option maxRecDepth 20000 in
theorem wc_MM_ending : Cond.code y_MM_ending b_MM_ending 2 ((some .int)) ∈ lw_g := List.mem_filter.mpr ⟨List.mem_append_right _ (List.mem_of_getElem? (i := 1100) rfl), rfl⟩
theorem wd_1099 : (Cond.instanceMethod ⟨"CellMapperModel", "ending", "(I)I"⟩) ∈ lw_g := List.mem_filter.mpr ⟨List.mem_append_right _ (List.mem_of_getElem? (i := 1099) (by decide +kernel)), rfl⟩
theorem ws_MM_ending : Cond.selects y_MM_ending.cls y_MM_ending y_MM_ending ∈ lw_g := List.mem_filter.mpr ⟨List.mem_append_left _ (List.mem_of_getElem? (i := 66) (by decide +kernel)), rfl⟩
theorem fy_MM_ending : zY y_MM_ending b_MM_ending 2 ((some .int)) 1 := ⟨wd_1099, ws_MM_ending, wd_7, wc_MM_ending, ⟨by decide +kernel, by decide +kernel, by decide +kernel⟩⟩
def y_MM_reset : MethodName := ⟨"CellMapperModel", "reset", "()V"⟩
abbrev b_MM_reset : ByteArray := prog_12_method_62_code
set_option maxRecDepth 20000 in
theorem wc_MM_reset : Cond.code y_MM_reset b_MM_reset 2 ((none : Option ClassFile.FieldType)) ∈ lw_g := List.mem_filter.mpr ⟨List.mem_append_right _ (List.mem_of_getElem? (i := 1104) rfl), rfl⟩
theorem wd_1102 : (Cond.instanceMethod ⟨"CellMapperModel", "reset", "()V"⟩) ∈ lw_g := List.mem_filter.mpr ⟨List.mem_append_right _ (List.mem_of_getElem? (i := 1102) (by decide +kernel)), rfl⟩
theorem wd_1103 : (Cond.selects "CellMapperModel" ⟨"CellMapperModel", "reset", "()V"⟩ ⟨"CellMapperModel", "reset", "()V"⟩) ∈ lw_g := List.mem_filter.mpr ⟨List.mem_append_right _ (List.mem_of_getElem? (i := 1103) (by decide +kernel)), rfl⟩
theorem fy_MM_reset : zY y_MM_reset b_MM_reset 2 ((none : Option ClassFile.FieldType)) 0 := ⟨wd_1102, wd_1103, wd_7, wc_MM_reset, ⟨by decide +kernel, by decide +kernel, by decide +kernel⟩⟩
theorem wd_0 : (Cond.initialized "CellMapperLaw") ∈ lw_g := List.mem_filter.mpr ⟨List.mem_append_right _ (List.mem_of_getElem? (i := 0) (by decide +kernel)), rfl⟩
theorem wd_14 : (Cond.initialized "java/lang/System") ∈ lw_g := List.mem_filter.mpr ⟨List.mem_append_right _ (List.mem_of_getElem? (i := 14) (by decide +kernel)), rfl⟩
theorem wd_22 : (Cond.classLink "CellMapperLaw" 7 "CellMapper") ∈ lw_g := List.mem_filter.mpr ⟨List.mem_append_right _ (List.mem_of_getElem? (i := 22) (by decide +kernel)), rfl⟩
theorem wd_23 : (Cond.instantiable "CellMapper" 18) ∈ lw_g := List.mem_filter.mpr ⟨List.mem_append_right _ (List.mem_of_getElem? (i := 23) (by decide +kernel)), rfl⟩
theorem wd_24 : (Cond.methodLink "CellMapperLaw" 9 ⟨"CellMapper", "<init>", "()V"⟩) ∈ lw_g := List.mem_filter.mpr ⟨List.mem_append_right _ (List.mem_of_getElem? (i := 24) (by decide +kernel)), rfl⟩
theorem wd_27 : (Cond.methodLink "CellMapper" 51 ⟨"java/lang/Object", "<init>", "()V"⟩) ∈ lw_g := List.mem_filter.mpr ⟨List.mem_append_right _ (List.mem_of_getElem? (i := 27) (by decide +kernel)), rfl⟩
theorem wd_28 : (Cond.instanceMethod ⟨"java/lang/Object", "<init>", "()V"⟩) ∈ lw_g := List.mem_filter.mpr ⟨List.mem_append_right _ (List.mem_of_getElem? (i := 28) (by decide +kernel)), rfl⟩
theorem wd_30 : (Cond.classLink "CellMapper" 38 "CellMapper$Graph") ∈ lw_g := List.mem_filter.mpr ⟨List.mem_append_right _ (List.mem_of_getElem? (i := 30) (by decide +kernel)), rfl⟩
theorem wd_31 : (Cond.instantiable "CellMapper$Graph" 1) ∈ lw_g := List.mem_filter.mpr ⟨List.mem_append_right _ (List.mem_of_getElem? (i := 31) (by decide +kernel)), rfl⟩
theorem wd_32 : (Cond.methodLinkNest "CellMapper" 56 ⟨"CellMapper$Graph", "<init>", "()V"⟩ "CellMapper") ∈ lw_tbl := List.mem_append_right _ (List.mem_of_getElem? (i := 32) (by decide +kernel))
theorem wd_35 : (Cond.methodLink "CellMapper$Graph" 1 ⟨"java/lang/Object", "<init>", "()V"⟩) ∈ lw_g := List.mem_filter.mpr ⟨List.mem_append_right _ (List.mem_of_getElem? (i := 35) (by decide +kernel)), rfl⟩
theorem wd_36 : (Cond.classLink "CellMapper$Graph" 7 "java/util/ArrayList") ∈ lw_g := List.mem_filter.mpr ⟨List.mem_append_right _ (List.mem_of_getElem? (i := 36) (by decide +kernel)), rfl⟩
theorem wd_37 : (Cond.instantiable "java/util/ArrayList" 3) ∈ lw_g := List.mem_filter.mpr ⟨List.mem_append_right _ (List.mem_of_getElem? (i := 37) (by decide +kernel)), rfl⟩
theorem wd_38 : (Cond.methodLink "CellMapper$Graph" 9 ⟨"java/util/ArrayList", "<init>", "()V"⟩) ∈ lw_g := List.mem_filter.mpr ⟨List.mem_append_right _ (List.mem_of_getElem? (i := 38) (by decide +kernel)), rfl⟩
theorem wd_41 : (Cond.methodLink "java/util/ArrayList" 1 ⟨"java/util/AbstractList", "<init>", "()V"⟩) ∈ lw_g := List.mem_filter.mpr ⟨List.mem_append_right _ (List.mem_of_getElem? (i := 41) (by decide +kernel)), rfl⟩
theorem wd_44 : (Cond.methodLink "java/util/AbstractList" 1 ⟨"java/util/AbstractCollection", "<init>", "()V"⟩) ∈ lw_g := List.mem_filter.mpr ⟨List.mem_append_right _ (List.mem_of_getElem? (i := 44) (by decide +kernel)), rfl⟩
theorem wd_47 : (Cond.methodLink "java/util/AbstractCollection" 1 ⟨"java/lang/Object", "<init>", "()V"⟩) ∈ lw_g := List.mem_filter.mpr ⟨List.mem_append_right _ (List.mem_of_getElem? (i := 47) (by decide +kernel)), rfl⟩
theorem wd_48 : (Cond.fieldLink "java/util/ArrayList" 39 "java/util/ArrayList" "DEFAULTCAPACITY_EMPTY_ELEMENTDATA" "[Ljava/lang/Object;") ∈ lw_g := List.mem_filter.mpr ⟨List.mem_append_right _ (List.mem_of_getElem? (i := 48) (by decide +kernel)), rfl⟩
theorem wd_50 : (Cond.fieldLink "java/util/ArrayList" 9 "java/util/ArrayList" "elementData" "[Ljava/lang/Object;") ∈ lw_g := List.mem_filter.mpr ⟨List.mem_append_right _ (List.mem_of_getElem? (i := 50) (by decide +kernel)), rfl⟩
theorem wd_51 : (Cond.fieldLink "java/util/ArrayList" 48 "java/util/ArrayList" "size" "I") ∈ lw_g := List.mem_filter.mpr ⟨List.mem_append_right _ (List.mem_of_getElem? (i := 51) (by decide +kernel)), rfl⟩
theorem wd_52 : (Cond.fieldLink "java/util/AbstractList" 7 "java/util/AbstractList" "modCount" "I") ∈ lw_g := List.mem_filter.mpr ⟨List.mem_append_right _ (List.mem_of_getElem? (i := 52) (by decide +kernel)), rfl⟩
theorem wd_53 : (Cond.fieldLink "java/util/ArrayList" 63 "java/util/ArrayList" "modCount" "I") ∈ lw_g := List.mem_filter.mpr ⟨List.mem_append_right _ (List.mem_of_getElem? (i := 53) (by decide +kernel)), rfl⟩
theorem wd_62 : (Cond.fieldLink "CellMapper$Graph" 10 "CellMapper$Graph" "nodes" "Ljava/util/ArrayList;") ∈ lw_g := List.mem_filter.mpr ⟨List.mem_append_right _ (List.mem_of_getElem? (i := 62) (by decide +kernel)), rfl⟩
theorem wd_63 : (Cond.fieldLink "CellMapper" 61 "CellMapper$Graph" "nodes" "Ljava/util/ArrayList;") ∈ lw_g := List.mem_filter.mpr ⟨List.mem_append_right _ (List.mem_of_getElem? (i := 63) (by decide +kernel)), rfl⟩
theorem wd_67 : (Cond.classLink "CellMapper" 66 "java/util/ArrayList") ∈ lw_g := List.mem_filter.mpr ⟨List.mem_append_right _ (List.mem_of_getElem? (i := 67) (by decide +kernel)), rfl⟩
theorem wd_68 : (Cond.methodLink "CellMapper" 68 ⟨"java/util/ArrayList", "<init>", "()V"⟩) ∈ lw_g := List.mem_filter.mpr ⟨List.mem_append_right _ (List.mem_of_getElem? (i := 68) (by decide +kernel)), rfl⟩
theorem wd_69 : (Cond.classLink "CellMapper" 2 "CellMapper$Digits") ∈ lw_g := List.mem_filter.mpr ⟨List.mem_append_right _ (List.mem_of_getElem? (i := 69) (by decide +kernel)), rfl⟩
theorem wd_70 : (Cond.instantiable "CellMapper$Digits" 2) ∈ lw_g := List.mem_filter.mpr ⟨List.mem_append_right _ (List.mem_of_getElem? (i := 70) (by decide +kernel)), rfl⟩
theorem wd_71 : (Cond.methodLinkNest "CellMapper" 84 ⟨"CellMapper$Digits", "<init>", "()V"⟩ "CellMapper") ∈ lw_tbl := List.mem_append_right _ (List.mem_of_getElem? (i := 71) (by decide +kernel))
theorem wd_74 : (Cond.methodLink "CellMapper$Digits" 1 ⟨"java/lang/Object", "<init>", "()V"⟩) ∈ lw_g := List.mem_filter.mpr ⟨List.mem_append_right _ (List.mem_of_getElem? (i := 74) (by decide +kernel)), rfl⟩
theorem wd_75 : (Cond.fieldLink "CellMapper$Digits" 7 "CellMapper$Digits" "rest" "I") ∈ lw_g := List.mem_filter.mpr ⟨List.mem_append_right _ (List.mem_of_getElem? (i := 75) (by decide +kernel)), rfl⟩
theorem wd_76 : (Cond.fieldLink "CellMapper$Digits" 13 "CellMapper$Digits" "pins" "I") ∈ lw_g := List.mem_filter.mpr ⟨List.mem_append_right _ (List.mem_of_getElem? (i := 76) (by decide +kernel)), rfl⟩
theorem wd_77 : (Cond.fieldLink "CellMapper" 9 "CellMapper$Digits" "pins" "I") ∈ lw_g := List.mem_filter.mpr ⟨List.mem_append_right _ (List.mem_of_getElem? (i := 77) (by decide +kernel)), rfl⟩
theorem wd_83 : (Cond.classLink "CellMapper" 89 "CellMapper$Node") ∈ lw_g := List.mem_filter.mpr ⟨List.mem_append_right _ (List.mem_of_getElem? (i := 83) (by decide +kernel)), rfl⟩
theorem wd_84 : (Cond.arrayOver (.object "CellMapper$Node")) ∈ lw_tbl := List.mem_append_right _ (List.mem_of_getElem? (i := 84) (by decide +kernel))
theorem wd_85 : (Cond.fieldLink "CellMapper" 57 "CellMapper" "graph" "LCellMapper$Graph;") ∈ lw_g := List.mem_filter.mpr ⟨List.mem_append_right _ (List.mem_of_getElem? (i := 85) (by decide +kernel)), rfl⟩
theorem wd_86 : (Cond.fieldLink "CellMapper" 65 "CellMapper" "nodes" "Ljava/util/ArrayList;") ∈ lw_g := List.mem_filter.mpr ⟨List.mem_append_right _ (List.mem_of_getElem? (i := 86) (by decide +kernel)), rfl⟩
theorem wd_87 : (Cond.fieldLink "CellMapper" 69 "CellMapper" "nets" "Ljava/util/ArrayList;") ∈ lw_g := List.mem_filter.mpr ⟨List.mem_append_right _ (List.mem_of_getElem? (i := 87) (by decide +kernel)), rfl⟩
theorem wd_88 : (Cond.fieldLink "CellMapper" 72 "CellMapper" "inputs" "Ljava/util/ArrayList;") ∈ lw_g := List.mem_filter.mpr ⟨List.mem_append_right _ (List.mem_of_getElem? (i := 88) (by decide +kernel)), rfl⟩
theorem wd_89 : (Cond.fieldLink "CellMapper" 75 "CellMapper" "latches" "Ljava/util/ArrayList;") ∈ lw_g := List.mem_filter.mpr ⟨List.mem_append_right _ (List.mem_of_getElem? (i := 89) (by decide +kernel)), rfl⟩
theorem wd_90 : (Cond.fieldLink "CellMapper" 78 "CellMapper" "outputs" "Ljava/util/ArrayList;") ∈ lw_g := List.mem_filter.mpr ⟨List.mem_append_right _ (List.mem_of_getElem? (i := 90) (by decide +kernel)), rfl⟩
theorem wd_91 : (Cond.fieldLink "CellMapper" 81 "CellMapper" "cells" "Ljava/util/ArrayList;") ∈ lw_g := List.mem_filter.mpr ⟨List.mem_append_right _ (List.mem_of_getElem? (i := 91) (by decide +kernel)), rfl⟩
theorem wd_92 : (Cond.fieldLink "CellMapper" 85 "CellMapper" "digits" "LCellMapper$Digits;") ∈ lw_g := List.mem_filter.mpr ⟨List.mem_append_right _ (List.mem_of_getElem? (i := 92) (by decide +kernel)), rfl⟩
theorem wd_93 : (Cond.fieldLink "CellMapper" 109 "CellMapper" "mapped" "Z") ∈ lw_g := List.mem_filter.mpr ⟨List.mem_append_right _ (List.mem_of_getElem? (i := 93) (by decide +kernel)), rfl⟩
theorem wd_94 : (Cond.fieldLink "CellMapper" 91 "CellMapper" "end" "[LCellMapper$Node;") ∈ lw_g := List.mem_filter.mpr ⟨List.mem_append_right _ (List.mem_of_getElem? (i := 94) (by decide +kernel)), rfl⟩
theorem wd_95 : (Cond.fieldLink "CellMapper" 95 "CellMapper" "source" "[LCellMapper$Node;") ∈ lw_g := List.mem_filter.mpr ⟨List.mem_append_right _ (List.mem_of_getElem? (i := 95) (by decide +kernel)), rfl⟩
theorem wd_96 : (Cond.fieldLink "CellMapper" 98 "CellMapper" "weight" "[I") ∈ lw_g := List.mem_filter.mpr ⟨List.mem_append_right _ (List.mem_of_getElem? (i := 96) (by decide +kernel)), rfl⟩
theorem wd_97 : (Cond.fieldLink "CellMapper" 102 "CellMapper" "initial" "[J") ∈ lw_g := List.mem_filter.mpr ⟨List.mem_append_right _ (List.mem_of_getElem? (i := 97) (by decide +kernel)), rfl⟩
theorem wd_98 : (Cond.fieldLink "CellMapper" 106 "CellMapper" "present" "[J") ∈ lw_g := List.mem_filter.mpr ⟨List.mem_append_right _ (List.mem_of_getElem? (i := 98) (by decide +kernel)), rfl⟩
theorem wd_99 : (Cond.fieldLink "CellMapper" 240 "CellMapper" "gates" "I") ∈ lw_g := List.mem_filter.mpr ⟨List.mem_append_right _ (List.mem_of_getElem? (i := 99) (by decide +kernel)), rfl⟩
theorem wd_100 : (Cond.fieldLink "CellMapper" 243 "CellMapper" "area" "I") ∈ lw_g := List.mem_filter.mpr ⟨List.mem_append_right _ (List.mem_of_getElem? (i := 100) (by decide +kernel)), rfl⟩
theorem wd_101 : (Cond.fieldLink "CellMapper" 283 "CellMapper" "period" "I") ∈ lw_g := List.mem_filter.mpr ⟨List.mem_append_right _ (List.mem_of_getElem? (i := 101) (by decide +kernel)), rfl⟩
theorem wd_102 : (Cond.fieldLink "CellMapper" 289 "CellMapper" "shortest" "I") ∈ lw_g := List.mem_filter.mpr ⟨List.mem_append_right _ (List.mem_of_getElem? (i := 102) (by decide +kernel)), rfl⟩
theorem wd_140 : (Cond.arrayClass .int) ∈ lw_g := List.mem_filter.mpr ⟨List.mem_append_right _ (List.mem_of_getElem? (i := 140) (by decide +kernel)), rfl⟩
theorem wd_141 : (Cond.arrayClass .long) ∈ lw_g := List.mem_filter.mpr ⟨List.mem_append_right _ (List.mem_of_getElem? (i := 141) (by decide +kernel)), rfl⟩
theorem wd_142 : (Cond.methodLink "CellMapperLaw" 13 ⟨"CellMapper", "input", "()I"⟩) ∈ lw_g := List.mem_filter.mpr ⟨List.mem_append_right _ (List.mem_of_getElem? (i := 142) (by decide +kernel)), rfl⟩
theorem wd_146 : (Cond.methodLink "CellMapper" 113 ⟨"java/util/ArrayList", "size", "()I"⟩) ∈ lw_g := List.mem_filter.mpr ⟨List.mem_append_right _ (List.mem_of_getElem? (i := 146) (by decide +kernel)), rfl⟩
theorem wd_150 : (Cond.fieldLink "CellMapper" 133 "CellMapper$Kind" "INPUT" "LCellMapper$Kind;") ∈ lw_g := List.mem_filter.mpr ⟨List.mem_append_right _ (List.mem_of_getElem? (i := 150) (by decide +kernel)), rfl⟩
theorem wd_152 : (Cond.methodLink "CellMapper" 139 ⟨"CellMapper$Graph", "add", "(LCellMapper$Kind;LCellMapper$Node;LCellMapper$Node;I)LCellMapper$Node;"⟩) ∈ lw_g := List.mem_filter.mpr ⟨List.mem_append_right _ (List.mem_of_getElem? (i := 152) (by decide +kernel)), rfl⟩
theorem wd_156 : (Cond.classLink "CellMapper$Graph" 16 "CellMapper$Node") ∈ lw_g := List.mem_filter.mpr ⟨List.mem_append_right _ (List.mem_of_getElem? (i := 156) (by decide +kernel)), rfl⟩
theorem wd_157 : (Cond.instantiable "CellMapper$Node" 18) ∈ lw_g := List.mem_filter.mpr ⟨List.mem_append_right _ (List.mem_of_getElem? (i := 157) (by decide +kernel)), rfl⟩
theorem wd_158 : (Cond.methodLink "CellMapper$Graph" 18 ⟨"java/util/ArrayList", "size", "()I"⟩) ∈ lw_g := List.mem_filter.mpr ⟨List.mem_append_right _ (List.mem_of_getElem? (i := 158) (by decide +kernel)), rfl⟩
theorem wd_159 : (Cond.methodLink "CellMapper$Graph" 22 ⟨"CellMapper$Node", "<init>", "(ILCellMapper$Kind;LCellMapper$Node;LCellMapper$Node;I)V"⟩) ∈ lw_g := List.mem_filter.mpr ⟨List.mem_append_right _ (List.mem_of_getElem? (i := 159) (by decide +kernel)), rfl⟩
theorem wd_162 : (Cond.methodLink "CellMapper$Node" 1 ⟨"java/lang/Object", "<init>", "()V"⟩) ∈ lw_g := List.mem_filter.mpr ⟨List.mem_append_right _ (List.mem_of_getElem? (i := 162) (by decide +kernel)), rfl⟩
theorem wd_163 : (Cond.fieldLink "CellMapper$Node" 27 "CellMapper$Kind" "LATCH" "LCellMapper$Kind;") ∈ lw_g := List.mem_filter.mpr ⟨List.mem_append_right _ (List.mem_of_getElem? (i := 163) (by decide +kernel)), rfl⟩
theorem wd_165 : (Cond.fieldLink "CellMapper$Node" 7 "CellMapper$Node" "number" "I") ∈ lw_g := List.mem_filter.mpr ⟨List.mem_append_right _ (List.mem_of_getElem? (i := 165) (by decide +kernel)), rfl⟩
theorem wd_166 : (Cond.fieldLink "CellMapper$Graph" 60 "CellMapper$Node" "number" "I") ∈ lw_g := List.mem_filter.mpr ⟨List.mem_append_right _ (List.mem_of_getElem? (i := 166) (by decide +kernel)), rfl⟩
theorem wd_167 : (Cond.fieldLink "CellMapper" 175 "CellMapper$Node" "number" "I") ∈ lw_g := List.mem_filter.mpr ⟨List.mem_append_right _ (List.mem_of_getElem? (i := 167) (by decide +kernel)), rfl⟩
theorem wd_168 : (Cond.fieldLink "CellMapper$Node" 13 "CellMapper$Node" "kind" "LCellMapper$Kind;") ∈ lw_g := List.mem_filter.mpr ⟨List.mem_append_right _ (List.mem_of_getElem? (i := 168) (by decide +kernel)), rfl⟩
theorem wd_169 : (Cond.fieldLink "CellMapper$Inv" 15 "CellMapper$Node" "kind" "LCellMapper$Kind;") ∈ lw_g := List.mem_filter.mpr ⟨List.mem_append_right _ (List.mem_of_getElem? (i := 169) (by decide +kernel)), rfl⟩
theorem wd_170 : (Cond.fieldLink "CellMapper$Graph" 33 "CellMapper$Node" "kind" "LCellMapper$Kind;") ∈ lw_g := List.mem_filter.mpr ⟨List.mem_append_right _ (List.mem_of_getElem? (i := 170) (by decide +kernel)), rfl⟩
theorem wd_171 : (Cond.fieldLink "CellMapper$Nand" 40 "CellMapper$Node" "kind" "LCellMapper$Kind;") ∈ lw_g := List.mem_filter.mpr ⟨List.mem_append_right _ (List.mem_of_getElem? (i := 171) (by decide +kernel)), rfl⟩
theorem wd_172 : (Cond.fieldLink "CellMapper" 156 "CellMapper$Node" "kind" "LCellMapper$Kind;") ∈ lw_g := List.mem_filter.mpr ⟨List.mem_append_right _ (List.mem_of_getElem? (i := 172) (by decide +kernel)), rfl⟩
theorem wd_173 : (Cond.fieldLink "CellMapper$Node" 17 "CellMapper$Node" "x" "LCellMapper$Node;") ∈ lw_g := List.mem_filter.mpr ⟨List.mem_append_right _ (List.mem_of_getElem? (i := 173) (by decide +kernel)), rfl⟩
theorem wd_174 : (Cond.fieldLink "CellMapper$Nand" 19 "CellMapper$Node" "x" "LCellMapper$Node;") ∈ lw_g := List.mem_filter.mpr ⟨List.mem_append_right _ (List.mem_of_getElem? (i := 174) (by decide +kernel)), rfl⟩
theorem wd_175 : (Cond.fieldLink "CellMapper$Inv" 31 "CellMapper$Node" "x" "LCellMapper$Node;") ∈ lw_g := List.mem_filter.mpr ⟨List.mem_append_right _ (List.mem_of_getElem? (i := 175) (by decide +kernel)), rfl⟩
theorem wd_176 : (Cond.fieldLink "CellMapper$Graph" 37 "CellMapper$Node" "x" "LCellMapper$Node;") ∈ lw_g := List.mem_filter.mpr ⟨List.mem_append_right _ (List.mem_of_getElem? (i := 176) (by decide +kernel)), rfl⟩
theorem wd_177 : (Cond.fieldLink "CellMapper" 178 "CellMapper$Node" "x" "LCellMapper$Node;") ∈ lw_g := List.mem_filter.mpr ⟨List.mem_append_right _ (List.mem_of_getElem? (i := 177) (by decide +kernel)), rfl⟩
theorem wd_178 : (Cond.fieldLink "CellMapper$Node" 21 "CellMapper$Node" "y" "LCellMapper$Node;") ∈ lw_g := List.mem_filter.mpr ⟨List.mem_append_right _ (List.mem_of_getElem? (i := 178) (by decide +kernel)), rfl⟩
theorem wd_179 : (Cond.fieldLink "CellMapper$Nand" 31 "CellMapper$Node" "y" "LCellMapper$Node;") ∈ lw_g := List.mem_filter.mpr ⟨List.mem_append_right _ (List.mem_of_getElem? (i := 179) (by decide +kernel)), rfl⟩
theorem wd_180 : (Cond.fieldLink "CellMapper$Graph" 41 "CellMapper$Node" "y" "LCellMapper$Node;") ∈ lw_g := List.mem_filter.mpr ⟨List.mem_append_right _ (List.mem_of_getElem? (i := 180) (by decide +kernel)), rfl⟩
theorem wd_181 : (Cond.fieldLink "CellMapper" 181 "CellMapper$Node" "y" "LCellMapper$Node;") ∈ lw_g := List.mem_filter.mpr ⟨List.mem_append_right _ (List.mem_of_getElem? (i := 181) (by decide +kernel)), rfl⟩
theorem wd_182 : (Cond.fieldLink "CellMapper$Node" 24 "CellMapper$Node" "data" "I") ∈ lw_g := List.mem_filter.mpr ⟨List.mem_append_right _ (List.mem_of_getElem? (i := 182) (by decide +kernel)), rfl⟩
theorem wd_183 : (Cond.fieldLink "CellMapper" 120 "CellMapper$Node" "data" "I") ∈ lw_g := List.mem_filter.mpr ⟨List.mem_append_right _ (List.mem_of_getElem? (i := 183) (by decide +kernel)), rfl⟩
theorem wd_184 : (Cond.fieldLink "CellMapper" 159 "CellMapper$Node" "driver" "LCellMapper$Node;") ∈ lw_g := List.mem_filter.mpr ⟨List.mem_append_right _ (List.mem_of_getElem? (i := 184) (by decide +kernel)), rfl⟩
theorem wd_185 : (Cond.fieldLink "CellMapper" 339 "CellMapper$Node" "value" "I") ∈ lw_g := List.mem_filter.mpr ⟨List.mem_append_right _ (List.mem_of_getElem? (i := 185) (by decide +kernel)), rfl⟩
theorem wd_186 : (Cond.fieldLink "CellMapper$Node" 32 "CellMapper$Node" "held" "I") ∈ lw_g := List.mem_filter.mpr ⟨List.mem_append_right _ (List.mem_of_getElem? (i := 186) (by decide +kernel)), rfl⟩
theorem wd_187 : (Cond.fieldLink "CellMapper" 123 "CellMapper$Node" "held" "I") ∈ lw_g := List.mem_filter.mpr ⟨List.mem_append_right _ (List.mem_of_getElem? (i := 187) (by decide +kernel)), rfl⟩
theorem wd_188 : (Cond.fieldLink "CellMapper" 149 "CellMapper$Node" "own" "I") ∈ lw_g := List.mem_filter.mpr ⟨List.mem_append_right _ (List.mem_of_getElem? (i := 188) (by decide +kernel)), rfl⟩
theorem wd_189 : (Cond.fieldLink "CellMapper$Node" 39 "CellMapper$Node" "live" "Z") ∈ lw_g := List.mem_filter.mpr ⟨List.mem_append_right _ (List.mem_of_getElem? (i := 189) (by decide +kernel)), rfl⟩
theorem wd_190 : (Cond.fieldLink "CellMapper" 187 "CellMapper$Node" "live" "Z") ∈ lw_g := List.mem_filter.mpr ⟨List.mem_append_right _ (List.mem_of_getElem? (i := 190) (by decide +kernel)), rfl⟩
theorem wd_191 : (Cond.fieldLink "CellMapper$Node" 43 "CellMapper$Node" "pinned" "Z") ∈ lw_g := List.mem_filter.mpr ⟨List.mem_append_right _ (List.mem_of_getElem? (i := 191) (by decide +kernel)), rfl⟩
theorem wd_192 : (Cond.fieldLink "CellMapper" 193 "CellMapper$Node" "pinned" "Z") ∈ lw_g := List.mem_filter.mpr ⟨List.mem_append_right _ (List.mem_of_getElem? (i := 192) (by decide +kernel)), rfl⟩
theorem wd_193 : (Cond.fieldLink "CellMapper" 196 "CellMapper$Node" "gate" "Z") ∈ lw_g := List.mem_filter.mpr ⟨List.mem_append_right _ (List.mem_of_getElem? (i := 193) (by decide +kernel)), rfl⟩
theorem wd_194 : (Cond.fieldLink "CellMapper$Node" 46 "CellMapper$Node" "uses" "I") ∈ lw_g := List.mem_filter.mpr ⟨List.mem_append_right _ (List.mem_of_getElem? (i := 194) (by decide +kernel)), rfl⟩
theorem wd_195 : (Cond.fieldLink "CellMapper" 190 "CellMapper$Node" "uses" "I") ∈ lw_g := List.mem_filter.mpr ⟨List.mem_append_right _ (List.mem_of_getElem? (i := 195) (by decide +kernel)), rfl⟩
theorem wd_196 : (Cond.fieldLink "CellMapper$Pin" 19 "CellMapper$Node" "cost" "I") ∈ lw_g := List.mem_filter.mpr ⟨List.mem_append_right _ (List.mem_of_getElem? (i := 196) (by decide +kernel)), rfl⟩
theorem wd_197 : (Cond.fieldLink "CellMapper" 218 "CellMapper$Node" "cost" "I") ∈ lw_g := List.mem_filter.mpr ⟨List.mem_append_right _ (List.mem_of_getElem? (i := 197) (by decide +kernel)), rfl⟩
theorem wd_198 : (Cond.fieldLink "CellMapper" 199 "CellMapper$Node" "cell" "LCellMapper$Cell;") ∈ lw_g := List.mem_filter.mpr ⟨List.mem_append_right _ (List.mem_of_getElem? (i := 198) (by decide +kernel)), rfl⟩
theorem wd_199 : (Cond.fieldLink "CellMapper" 261 "CellMapper$Node" "tried" "I") ∈ lw_g := List.mem_filter.mpr ⟨List.mem_append_right _ (List.mem_of_getElem? (i := 199) (by decide +kernel)), rfl⟩
theorem wd_200 : (Cond.fieldLink "CellMapper" 203 "CellMapper$Node" "moves" "I") ∈ lw_g := List.mem_filter.mpr ⟨List.mem_append_right _ (List.mem_of_getElem? (i := 200) (by decide +kernel)), rfl⟩
theorem wd_201 : (Cond.fieldLink "CellMapper" 267 "CellMapper$Node" "way" "I") ∈ lw_g := List.mem_filter.mpr ⟨List.mem_append_right _ (List.mem_of_getElem? (i := 201) (by decide +kernel)), rfl⟩
theorem wd_239 : (Cond.methodLink "CellMapper$Graph" 25 ⟨"java/util/ArrayList", "add", "(Ljava/lang/Object;)Z"⟩) ∈ lw_g := List.mem_filter.mpr ⟨List.mem_append_right _ (List.mem_of_getElem? (i := 239) (by decide +kernel)), rfl⟩
theorem wd_243 : (Cond.methodLink "java/util/ArrayList" 131 ⟨"java/util/ArrayList", "add", "(Ljava/lang/Object;[Ljava/lang/Object;I)V"⟩) ∈ lw_g := List.mem_filter.mpr ⟨List.mem_append_right _ (List.mem_of_getElem? (i := 243) (by decide +kernel)), rfl⟩
theorem wd_247 : (Cond.methodLink "java/util/ArrayList" 129 ⟨"java/util/ArrayList", "grow", "()[Ljava/lang/Object;"⟩) ∈ lw_g := List.mem_filter.mpr ⟨List.mem_append_right _ (List.mem_of_getElem? (i := 247) (by decide +kernel)), rfl⟩
theorem wd_251 : (Cond.methodLink "java/util/ArrayList" 69 ⟨"java/util/ArrayList", "grow", "(I)[Ljava/lang/Object;"⟩) ∈ lw_g := List.mem_filter.mpr ⟨List.mem_append_right _ (List.mem_of_getElem? (i := 251) (by decide +kernel)), rfl⟩
theorem wd_255 : (Cond.methodLink "java/util/ArrayList" 73 ⟨"jdk/internal/util/ArraysSupport", "newLength", "(III)I"⟩) ∈ lw_g := List.mem_filter.mpr ⟨List.mem_append_right _ (List.mem_of_getElem? (i := 255) (by decide +kernel)), rfl⟩
theorem wd_258 : (Cond.methodLink "jdk/internal/util/ArraysSupport" 194 ⟨"java/lang/Math", "max", "(II)I"⟩) ∈ lw_g := List.mem_filter.mpr ⟨List.mem_append_right _ (List.mem_of_getElem? (i := 258) (by decide +kernel)), rfl⟩
theorem wd_261 : (Cond.constant "jdk/internal/util/ArraysSupport" 200 (2147483639 : Int32)) ∈ lw_g := List.mem_filter.mpr ⟨List.mem_append_right _ (List.mem_of_getElem? (i := 261) (by decide +kernel)), rfl⟩
theorem wd_262 : (Cond.methodLink "jdk/internal/util/ArraysSupport" 201 ⟨"jdk/internal/util/ArraysSupport", "hugeLength", "(II)I"⟩) ∈ lw_g := List.mem_filter.mpr ⟨List.mem_append_right _ (List.mem_of_getElem? (i := 262) (by decide +kernel)), rfl⟩
theorem wd_265 : (Cond.methodLink "java/util/ArrayList" 66 ⟨"java/util/Arrays", "copyOf", "([Ljava/lang/Object;I)[Ljava/lang/Object;"⟩) ∈ lw_g := List.mem_filter.mpr ⟨List.mem_append_right _ (List.mem_of_getElem? (i := 265) (by decide +kernel)), rfl⟩
theorem wd_268 : (Cond.methodLink "java/util/Arrays" 86 ⟨"java/lang/Object", "getClass", "()Ljava/lang/Class;"⟩) ∈ lw_g := List.mem_filter.mpr ⟨List.mem_append_right _ (List.mem_of_getElem? (i := 268) (by decide +kernel)), rfl⟩
theorem wd_269 : (Cond.instanceMethod ⟨"java/lang/Object", "getClass", "()Ljava/lang/Class;"⟩) ∈ lw_g := List.mem_filter.mpr ⟨List.mem_append_right _ (List.mem_of_getElem? (i := 269) (by decide +kernel)), rfl⟩
theorem wd_283 : (Cond.methodLink "java/util/Arrays" 300 ⟨"java/util/Arrays", "copyOf", "([Ljava/lang/Object;ILjava/lang/Class;)[Ljava/lang/Object;"⟩) ∈ lw_g := List.mem_filter.mpr ⟨List.mem_append_right _ (List.mem_of_getElem? (i := 283) (by decide +kernel)), rfl⟩
theorem wd_286 : (Cond.classLink "java/util/Arrays" 110 "[Ljava/lang/Object;") ∈ lw_g := List.mem_filter.mpr ⟨List.mem_append_right _ (List.mem_of_getElem? (i := 286) (by decide +kernel)), rfl⟩
theorem wd_287 : (Cond.arrayOver (.object "java/lang/Object")) ∈ lw_tbl := List.mem_append_right _ (List.mem_of_getElem? (i := 287) (by decide +kernel))
theorem wd_288 : (Cond.classLink "java/util/Arrays" 2 "java/lang/Object") ∈ lw_g := List.mem_filter.mpr ⟨List.mem_append_right _ (List.mem_of_getElem? (i := 288) (by decide +kernel)), rfl⟩
theorem wd_289 : (Cond.methodLink "java/util/Arrays" 304 ⟨"java/lang/Math", "min", "(II)I"⟩) ∈ lw_g := List.mem_filter.mpr ⟨List.mem_append_right _ (List.mem_of_getElem? (i := 289) (by decide +kernel)), rfl⟩
theorem wd_292 : (Cond.methodLink "java/util/Arrays" 150 ⟨"java/lang/System", "arraycopy", "(Ljava/lang/Object;ILjava/lang/Object;II)V"⟩) ∈ lw_g := List.mem_filter.mpr ⟨List.mem_append_right _ (List.mem_of_getElem? (i := 292) (by decide +kernel)), rfl⟩
theorem wd_295 : (Cond.methodLink "java/util/ArrayList" 79 ⟨"java/lang/Math", "max", "(II)I"⟩) ∈ lw_g := List.mem_filter.mpr ⟨List.mem_append_right _ (List.mem_of_getElem? (i := 295) (by decide +kernel)), rfl⟩
theorem wd_296 : (Cond.classLink "java/util/ArrayList" 7 "java/lang/Object") ∈ lw_g := List.mem_filter.mpr ⟨List.mem_append_right _ (List.mem_of_getElem? (i := 296) (by decide +kernel)), rfl⟩
theorem wd_297 : (Cond.methodLink "CellMapper" 126 ⟨"java/util/ArrayList", "add", "(Ljava/lang/Object;)Z"⟩) ∈ lw_g := List.mem_filter.mpr ⟨List.mem_append_right _ (List.mem_of_getElem? (i := 297) (by decide +kernel)), rfl⟩
theorem wd_298 : (Cond.methodLink "CellMapper" 142 ⟨"CellMapper", "net", "(LCellMapper$Node;)I"⟩) ∈ lw_g := List.mem_filter.mpr ⟨List.mem_append_right _ (List.mem_of_getElem? (i := 298) (by decide +kernel)), rfl⟩
theorem wd_302 : (Cond.methodLink "CellMapper" 130 ⟨"CellMapper", "changed", "()V"⟩) ∈ lw_g := List.mem_filter.mpr ⟨List.mem_append_right _ (List.mem_of_getElem? (i := 302) (by decide +kernel)), rfl⟩
theorem wd_306 : (Cond.methodLink "CellMapper" 116 ⟨"java/util/ArrayList", "get", "(I)Ljava/lang/Object;"⟩) ∈ lw_g := List.mem_filter.mpr ⟨List.mem_append_right _ (List.mem_of_getElem? (i := 306) (by decide +kernel)), rfl⟩
theorem wd_310 : (Cond.methodLink "java/util/ArrayList" 118 ⟨"java/util/Objects", "checkIndex", "(II)I"⟩) ∈ lw_g := List.mem_filter.mpr ⟨List.mem_append_right _ (List.mem_of_getElem? (i := 310) (by decide +kernel)), rfl⟩
theorem wd_313 : (Cond.methodLink "java/util/Objects" 105 ⟨"jdk/internal/util/Preconditions", "checkIndex", "(IILjava/util/function/BiFunction;)I"⟩) ∈ lw_g := List.mem_filter.mpr ⟨List.mem_append_right _ (List.mem_of_getElem? (i := 313) (by decide +kernel)), rfl⟩
theorem wd_316 : (Cond.methodLink "java/util/ArrayList" 123 ⟨"java/util/ArrayList", "elementData", "(I)Ljava/lang/Object;"⟩) ∈ lw_g := List.mem_filter.mpr ⟨List.mem_append_right _ (List.mem_of_getElem? (i := 316) (by decide +kernel)), rfl⟩
theorem wd_320 : (Cond.methodLink "CellMapperLaw" 18 ⟨"CellMapper", "latch", "(I)I"⟩) ∈ lw_g := List.mem_filter.mpr ⟨List.mem_append_right _ (List.mem_of_getElem? (i := 320) (by decide +kernel)), rfl⟩
theorem wd_324 : (Cond.fieldLink "CellMapper" 146 "CellMapper$Kind" "LATCH" "LCellMapper$Kind;") ∈ lw_g := List.mem_filter.mpr ⟨List.mem_append_right _ (List.mem_of_getElem? (i := 324) (by decide +kernel)), rfl⟩
theorem wd_325 : (Cond.methodLink "CellMapperLaw" 23 ⟨"CellMapper", "function", "(IIII)I"⟩) ∈ lw_g := List.mem_filter.mpr ⟨List.mem_append_right _ (List.mem_of_getElem? (i := 325) (by decide +kernel)), rfl⟩
theorem wd_329 : (Cond.methodLink "CellMapper" 152 ⟨"CellMapper", "at", "(I)LCellMapper$Node;"⟩) ∈ lw_g := List.mem_filter.mpr ⟨List.mem_append_right _ (List.mem_of_getElem? (i := 329) (by decide +kernel)), rfl⟩
theorem wd_333 : (Cond.methodLink "CellMapper" 33 ⟨"CellMapper", "build", "(LCellMapper$Graph;ILCellMapper$Node;LCellMapper$Node;LCellMapper$Node;I)LCellMapper$Node;"⟩) ∈ lw_g := List.mem_filter.mpr ⟨List.mem_append_right _ (List.mem_of_getElem? (i := 333) (by decide +kernel)), rfl⟩
theorem wd_336 : (Cond.methodLink "CellMapper" 37 ⟨"CellMapper$Graph", "inv", "(LCellMapper$Node;)LCellMapper$Node;"⟩) ∈ lw_g := List.mem_filter.mpr ⟨List.mem_append_right _ (List.mem_of_getElem? (i := 336) (by decide +kernel)), rfl⟩
theorem wd_340 : (Cond.fieldLink "CellMapper$Graph" 47 "CellMapper$Kind" "INV" "LCellMapper$Kind;") ∈ lw_g := List.mem_filter.mpr ⟨List.mem_append_right _ (List.mem_of_getElem? (i := 340) (by decide +kernel)), rfl⟩
theorem wd_342 : (Cond.methodLink "CellMapper$Graph" 52 ⟨"CellMapper$Graph", "shared", "(LCellMapper$Kind;LCellMapper$Node;LCellMapper$Node;)LCellMapper$Node;"⟩) ∈ lw_g := List.mem_filter.mpr ⟨List.mem_append_right _ (List.mem_of_getElem? (i := 342) (by decide +kernel)), rfl⟩
theorem wd_346 : (Cond.methodLink "CellMapper$Graph" 29 ⟨"java/util/ArrayList", "get", "(I)Ljava/lang/Object;"⟩) ∈ lw_g := List.mem_filter.mpr ⟨List.mem_append_right _ (List.mem_of_getElem? (i := 346) (by decide +kernel)), rfl⟩
theorem wd_347 : (Cond.methodLink "CellMapper$Graph" 44 ⟨"CellMapper$Graph", "add", "(LCellMapper$Kind;LCellMapper$Node;LCellMapper$Node;I)LCellMapper$Node;"⟩) ∈ lw_g := List.mem_filter.mpr ⟨List.mem_append_right _ (List.mem_of_getElem? (i := 347) (by decide +kernel)), rfl⟩
theorem wd_348 : (Cond.methodLink "CellMapper" 43 ⟨"CellMapper$Graph", "gated", "(LCellMapper$Node;LCellMapper$Node;Z)LCellMapper$Node;"⟩) ∈ lw_g := List.mem_filter.mpr ⟨List.mem_append_right _ (List.mem_of_getElem? (i := 348) (by decide +kernel)), rfl⟩
theorem wd_352 : (Cond.methodLink "CellMapper$Graph" 67 ⟨"CellMapper$Graph", "nand", "(LCellMapper$Node;LCellMapper$Node;)LCellMapper$Node;"⟩) ∈ lw_g := List.mem_filter.mpr ⟨List.mem_append_right _ (List.mem_of_getElem? (i := 352) (by decide +kernel)), rfl⟩
theorem wd_356 : (Cond.methodLink "CellMapper$Graph" 56 ⟨"CellMapper$Graph", "inv", "(LCellMapper$Node;)LCellMapper$Node;"⟩) ∈ lw_g := List.mem_filter.mpr ⟨List.mem_append_right _ (List.mem_of_getElem? (i := 356) (by decide +kernel)), rfl⟩
theorem wd_357 : (Cond.fieldLink "CellMapper$Graph" 64 "CellMapper$Kind" "NAND" "LCellMapper$Kind;") ∈ lw_g := List.mem_filter.mpr ⟨List.mem_append_right _ (List.mem_of_getElem? (i := 357) (by decide +kernel)), rfl⟩
theorem wd_359 : (Cond.methodLink "CellMapper" 47 ⟨"CellMapper$Graph", "nand", "(LCellMapper$Node;LCellMapper$Node;)LCellMapper$Node;"⟩) ∈ lw_g := List.mem_filter.mpr ⟨List.mem_append_right _ (List.mem_of_getElem? (i := 359) (by decide +kernel)), rfl⟩
theorem wd_360 : (Cond.methodLink "CellMapperLaw" 28 ⟨"CellMapper", "drive", "(II)Z"⟩) ∈ lw_g := List.mem_filter.mpr ⟨List.mem_append_right _ (List.mem_of_getElem? (i := 360) (by decide +kernel)), rfl⟩
theorem wd_364 : (Cond.methodLink "CellMapperLaw" 33 ⟨"CellMapper", "output", "(I)I"⟩) ∈ lw_g := List.mem_filter.mpr ⟨List.mem_append_right _ (List.mem_of_getElem? (i := 364) (by decide +kernel)), rfl⟩
theorem wd_368 : (Cond.methodLink "CellMapperLaw" 37 ⟨"CellMapper", "cell", "(III)I"⟩) ∈ lw_g := List.mem_filter.mpr ⟨List.mem_append_right _ (List.mem_of_getElem? (i := 368) (by decide +kernel)), rfl⟩
theorem wd_372 : (Cond.methodLink "CellMapper" 163 ⟨"CellMapper", "shaped", "(I)Z"⟩) ∈ lw_g := List.mem_filter.mpr ⟨List.mem_append_right _ (List.mem_of_getElem? (i := 372) (by decide +kernel)), rfl⟩
theorem wd_375 : (Cond.methodLink "CellMapper" 167 ⟨"CellMapper$Digits", "begin", "(I)V"⟩) ∈ lw_g := List.mem_filter.mpr ⟨List.mem_append_right _ (List.mem_of_getElem? (i := 375) (by decide +kernel)), rfl⟩
theorem wd_379 : (Cond.methodLink "CellMapper" 17 ⟨"CellMapper", "parse", "(LCellMapper$Digits;I)LCellMapper$Pattern;"⟩) ∈ lw_g := List.mem_filter.mpr ⟨List.mem_append_right _ (List.mem_of_getElem? (i := 379) (by decide +kernel)), rfl⟩
theorem wd_382 : (Cond.methodLink "CellMapper" 1 ⟨"CellMapper$Digits", "next", "()I"⟩) ∈ lw_g := List.mem_filter.mpr ⟨List.mem_append_right _ (List.mem_of_getElem? (i := 382) (by decide +kernel)), rfl⟩
theorem wd_386 : (Cond.classLink "CellMapper" 7 "CellMapper$Pin") ∈ lw_g := List.mem_filter.mpr ⟨List.mem_append_right _ (List.mem_of_getElem? (i := 386) (by decide +kernel)), rfl⟩
theorem wd_387 : (Cond.instantiable "CellMapper$Pin" 1) ∈ lw_g := List.mem_filter.mpr ⟨List.mem_append_right _ (List.mem_of_getElem? (i := 387) (by decide +kernel)), rfl⟩
theorem wd_388 : (Cond.methodLinkNest "CellMapper" 13 ⟨"CellMapper$Pin", "<init>", "(I)V"⟩ "CellMapper") ∈ lw_tbl := List.mem_append_right _ (List.mem_of_getElem? (i := 388) (by decide +kernel))
theorem wd_391 : (Cond.methodLink "CellMapper$Pin" 1 ⟨"java/lang/Record", "<init>", "()V"⟩) ∈ lw_g := List.mem_filter.mpr ⟨List.mem_append_right _ (List.mem_of_getElem? (i := 391) (by decide +kernel)), rfl⟩
theorem wd_394 : (Cond.methodLink "java/lang/Record" 1 ⟨"java/lang/Object", "<init>", "()V"⟩) ∈ lw_g := List.mem_filter.mpr ⟨List.mem_append_right _ (List.mem_of_getElem? (i := 394) (by decide +kernel)), rfl⟩
theorem wd_395 : (Cond.fieldLink "CellMapper$Pin" 7 "CellMapper$Pin" "index" "I") ∈ lw_g := List.mem_filter.mpr ⟨List.mem_append_right _ (List.mem_of_getElem? (i := 395) (by decide +kernel)), rfl⟩
theorem wd_399 : (Cond.classLink "CellMapper" 23 "CellMapper$Inv") ∈ lw_g := List.mem_filter.mpr ⟨List.mem_append_right _ (List.mem_of_getElem? (i := 399) (by decide +kernel)), rfl⟩
theorem wd_400 : (Cond.instantiable "CellMapper$Inv" 1) ∈ lw_g := List.mem_filter.mpr ⟨List.mem_append_right _ (List.mem_of_getElem? (i := 400) (by decide +kernel)), rfl⟩
theorem wd_401 : (Cond.methodLinkNest "CellMapper" 25 ⟨"CellMapper$Inv", "<init>", "(LCellMapper$Pattern;)V"⟩ "CellMapper") ∈ lw_tbl := List.mem_append_right _ (List.mem_of_getElem? (i := 401) (by decide +kernel))
theorem wd_404 : (Cond.methodLink "CellMapper$Inv" 3 ⟨"java/lang/Record", "<init>", "()V"⟩) ∈ lw_g := List.mem_filter.mpr ⟨List.mem_append_right _ (List.mem_of_getElem? (i := 404) (by decide +kernel)), rfl⟩
theorem wd_405 : (Cond.fieldLink "CellMapper$Inv" 9 "CellMapper$Inv" "of" "LCellMapper$Pattern;") ∈ lw_g := List.mem_filter.mpr ⟨List.mem_append_right _ (List.mem_of_getElem? (i := 405) (by decide +kernel)), rfl⟩
theorem wd_409 : (Cond.classLink "CellMapper" 28 "CellMapper$Nand") ∈ lw_g := List.mem_filter.mpr ⟨List.mem_append_right _ (List.mem_of_getElem? (i := 409) (by decide +kernel)), rfl⟩
theorem wd_410 : (Cond.instantiable "CellMapper$Nand" 2) ∈ lw_g := List.mem_filter.mpr ⟨List.mem_append_right _ (List.mem_of_getElem? (i := 410) (by decide +kernel)), rfl⟩
theorem wd_411 : (Cond.methodLinkNest "CellMapper" 30 ⟨"CellMapper$Nand", "<init>", "(LCellMapper$Pattern;LCellMapper$Pattern;)V"⟩ "CellMapper") ∈ lw_tbl := List.mem_append_right _ (List.mem_of_getElem? (i := 411) (by decide +kernel))
theorem wd_414 : (Cond.methodLink "CellMapper$Nand" 3 ⟨"java/lang/Record", "<init>", "()V"⟩) ∈ lw_g := List.mem_filter.mpr ⟨List.mem_append_right _ (List.mem_of_getElem? (i := 414) (by decide +kernel)), rfl⟩
theorem wd_415 : (Cond.fieldLink "CellMapper$Nand" 9 "CellMapper$Nand" "first" "LCellMapper$Pattern;") ∈ lw_g := List.mem_filter.mpr ⟨List.mem_append_right _ (List.mem_of_getElem? (i := 415) (by decide +kernel)), rfl⟩
theorem wd_416 : (Cond.fieldLink "CellMapper$Nand" 15 "CellMapper$Nand" "second" "LCellMapper$Pattern;") ∈ lw_g := List.mem_filter.mpr ⟨List.mem_append_right _ (List.mem_of_getElem? (i := 416) (by decide +kernel)), rfl⟩
theorem wd_422 : (Cond.classLink "CellMapper" 170 "CellMapper$Cell") ∈ lw_g := List.mem_filter.mpr ⟨List.mem_append_right _ (List.mem_of_getElem? (i := 422) (by decide +kernel)), rfl⟩
theorem wd_423 : (Cond.instantiable "CellMapper$Cell" 6) ∈ lw_g := List.mem_filter.mpr ⟨List.mem_append_right _ (List.mem_of_getElem? (i := 423) (by decide +kernel)), rfl⟩
theorem wd_424 : (Cond.methodLink "CellMapper" 172 ⟨"CellMapper$Cell", "<init>", "(IIIIILCellMapper$Pattern;)V"⟩) ∈ lw_g := List.mem_filter.mpr ⟨List.mem_append_right _ (List.mem_of_getElem? (i := 424) (by decide +kernel)), rfl⟩
theorem wd_427 : (Cond.methodLink "CellMapper$Cell" 1 ⟨"java/lang/Object", "<init>", "()V"⟩) ∈ lw_g := List.mem_filter.mpr ⟨List.mem_append_right _ (List.mem_of_getElem? (i := 427) (by decide +kernel)), rfl⟩
theorem wd_428 : (Cond.fieldLink "CellMapper$Cell" 7 "CellMapper$Cell" "number" "I") ∈ lw_g := List.mem_filter.mpr ⟨List.mem_append_right _ (List.mem_of_getElem? (i := 428) (by decide +kernel)), rfl⟩
theorem wd_429 : (Cond.fieldLink "CellMapper" 332 "CellMapper$Cell" "number" "I") ∈ lw_g := List.mem_filter.mpr ⟨List.mem_append_right _ (List.mem_of_getElem? (i := 429) (by decide +kernel)), rfl⟩
theorem wd_430 : (Cond.fieldLink "CellMapper$Cell" 13 "CellMapper$Cell" "code" "I") ∈ lw_g := List.mem_filter.mpr ⟨List.mem_append_right _ (List.mem_of_getElem? (i := 430) (by decide +kernel)), rfl⟩
theorem wd_431 : (Cond.fieldLink "CellMapper" 184 "CellMapper$Cell" "code" "I") ∈ lw_g := List.mem_filter.mpr ⟨List.mem_append_right _ (List.mem_of_getElem? (i := 431) (by decide +kernel)), rfl⟩
theorem wd_432 : (Cond.fieldLink "CellMapper$Cell" 16 "CellMapper$Cell" "area" "I") ∈ lw_g := List.mem_filter.mpr ⟨List.mem_append_right _ (List.mem_of_getElem? (i := 432) (by decide +kernel)), rfl⟩
theorem wd_433 : (Cond.fieldLink "CellMapper" 221 "CellMapper$Cell" "area" "I") ∈ lw_g := List.mem_filter.mpr ⟨List.mem_append_right _ (List.mem_of_getElem? (i := 433) (by decide +kernel)), rfl⟩
theorem wd_434 : (Cond.fieldLink "CellMapper$Cell" 19 "CellMapper$Cell" "delay" "I") ∈ lw_g := List.mem_filter.mpr ⟨List.mem_append_right _ (List.mem_of_getElem? (i := 434) (by decide +kernel)), rfl⟩
theorem wd_435 : (Cond.fieldLink "CellMapper" 264 "CellMapper$Cell" "delay" "I") ∈ lw_g := List.mem_filter.mpr ⟨List.mem_append_right _ (List.mem_of_getElem? (i := 435) (by decide +kernel)), rfl⟩
theorem wd_436 : (Cond.fieldLink "CellMapper$Cell" 22 "CellMapper$Cell" "pins" "I") ∈ lw_g := List.mem_filter.mpr ⟨List.mem_append_right _ (List.mem_of_getElem? (i := 436) (by decide +kernel)), rfl⟩
theorem wd_437 : (Cond.fieldLink "CellMapper" 251 "CellMapper$Cell" "pins" "I") ∈ lw_g := List.mem_filter.mpr ⟨List.mem_append_right _ (List.mem_of_getElem? (i := 437) (by decide +kernel)), rfl⟩
theorem wd_438 : (Cond.fieldLink "CellMapper$Cell" 25 "CellMapper$Cell" "pattern" "LCellMapper$Pattern;") ∈ lw_g := List.mem_filter.mpr ⟨List.mem_append_right _ (List.mem_of_getElem? (i := 438) (by decide +kernel)), rfl⟩
theorem wd_439 : (Cond.fieldLink "CellMapper" 224 "CellMapper$Cell" "pattern" "LCellMapper$Pattern;") ∈ lw_g := List.mem_filter.mpr ⟨List.mem_append_right _ (List.mem_of_getElem? (i := 439) (by decide +kernel)), rfl⟩
theorem wd_453 : (Cond.methodLink "CellMapperLaw" 42 ⟨"CellMapper", "nodes", "()I"⟩) ∈ lw_g := List.mem_filter.mpr ⟨List.mem_append_right _ (List.mem_of_getElem? (i := 453) (by decide +kernel)), rfl⟩
theorem wd_457 : (Cond.methodLink "CellMapperLaw" 46 ⟨"CellMapper", "nodeOf", "(I)I"⟩) ∈ lw_g := List.mem_filter.mpr ⟨List.mem_append_right _ (List.mem_of_getElem? (i := 457) (by decide +kernel)), rfl⟩
theorem wd_461 : (Cond.methodLink "CellMapperLaw" 50 ⟨"CellMapper", "part", "(II)I"⟩) ∈ lw_g := List.mem_filter.mpr ⟨List.mem_append_right _ (List.mem_of_getElem? (i := 461) (by decide +kernel)), rfl⟩
theorem wd_465 : (Cond.methodLink "CellMapperLaw" 55 ⟨"CellMapper", "map", "()I"⟩) ∈ lw_g := List.mem_filter.mpr ⟨List.mem_append_right _ (List.mem_of_getElem? (i := 465) (by decide +kernel)), rfl⟩
theorem wd_469 : (Cond.methodLink "CellMapper" 302 ⟨"CellMapper", "undriven", "()Z"⟩) ∈ lw_g := List.mem_filter.mpr ⟨List.mem_append_right _ (List.mem_of_getElem? (i := 469) (by decide +kernel)), rfl⟩
theorem wd_473 : (Cond.methodLink "CellMapper" 305 ⟨"CellMapper", "ring", "()Z"⟩) ∈ lw_g := List.mem_filter.mpr ⟨List.mem_append_right _ (List.mem_of_getElem? (i := 473) (by decide +kernel)), rfl⟩
theorem wd_477 : (Cond.methodLink "CellMapper" 308 ⟨"CellMapper", "provided", "(I)Z"⟩) ∈ lw_g := List.mem_filter.mpr ⟨List.mem_append_right _ (List.mem_of_getElem? (i := 477) (by decide +kernel)), rfl⟩
theorem wd_481 : (Cond.methodLink "CellMapper" 311 ⟨"CellMapper", "cover", "()V"⟩) ∈ lw_g := List.mem_filter.mpr ⟨List.mem_append_right _ (List.mem_of_getElem? (i := 481) (by decide +kernel)), rfl⟩
theorem wd_485 : (Cond.methodLink "CellMapper" 206 ⟨"CellMapper$Kind", "logic", "()Z"⟩) ∈ lw_g := List.mem_filter.mpr ⟨List.mem_append_right _ (List.mem_of_getElem? (i := 485) (by decide +kernel)), rfl⟩
theorem wd_489 : (Cond.methodLink "CellMapper" 210 ⟨"CellMapper", "use", "(LCellMapper$Node;)V"⟩) ∈ lw_g := List.mem_filter.mpr ⟨List.mem_append_right _ (List.mem_of_getElem? (i := 489) (by decide +kernel)), rfl⟩
theorem wd_492 : (Cond.methodLink "CellMapper" 214 ⟨"CellMapper", "choose", "(LCellMapper$Node;)V"⟩) ∈ lw_g := List.mem_filter.mpr ⟨List.mem_append_right _ (List.mem_of_getElem? (i := 492) (by decide +kernel)), rfl⟩
theorem wd_496 : (Cond.constant "CellMapper" 217 (268435456 : Int32)) ∈ lw_g := List.mem_filter.mpr ⟨List.mem_append_right _ (List.mem_of_getElem? (i := 496) (by decide +kernel)), rfl⟩
theorem wd_498 : (Cond.methodLink "CellMapper" 228 ⟨"CellMapper$Pattern", "lay", "(LCellMapper$Node;Z)I"⟩) ∈ lw_g := List.mem_filter.mpr ⟨List.mem_append_right _ (List.mem_of_getElem? (i := 498) (by decide +kernel)), rfl⟩
theorem wd_507 : (Cond.fieldLink "CellMapper$Inv" 21 "CellMapper$Kind" "INV" "LCellMapper$Kind;") ∈ lw_g := List.mem_filter.mpr ⟨List.mem_append_right _ (List.mem_of_getElem? (i := 507) (by decide +kernel)), rfl⟩
theorem wd_508 : (Cond.methodLink "CellMapper$Inv" 26 ⟨"CellMapper$Node", "root", "()Z"⟩) ∈ lw_g := List.mem_filter.mpr ⟨List.mem_append_right _ (List.mem_of_getElem? (i := 508) (by decide +kernel)), rfl⟩
theorem wd_512 : (Cond.methodLink "CellMapper$Node" 35 ⟨"CellMapper$Kind", "logic", "()Z"⟩) ∈ lw_g := List.mem_filter.mpr ⟨List.mem_append_right _ (List.mem_of_getElem? (i := 512) (by decide +kernel)), rfl⟩
theorem wd_513 : (Cond.constant "CellMapper$Inv" 30 (268435456 : Int32)) ∈ lw_g := List.mem_filter.mpr ⟨List.mem_append_right _ (List.mem_of_getElem? (i := 513) (by decide +kernel)), rfl⟩
theorem wd_515 : (Cond.methodLink "CellMapper$Inv" 35 ⟨"CellMapper$Pattern", "lay", "(LCellMapper$Node;Z)I"⟩) ∈ lw_g := List.mem_filter.mpr ⟨List.mem_append_right _ (List.mem_of_getElem? (i := 515) (by decide +kernel)), rfl⟩
theorem wd_522 : (Cond.fieldLink "CellMapper$Nand" 44 "CellMapper$Kind" "NAND" "LCellMapper$Kind;") ∈ lw_g := List.mem_filter.mpr ⟨List.mem_append_right _ (List.mem_of_getElem? (i := 522) (by decide +kernel)), rfl⟩
theorem wd_523 : (Cond.methodLink "CellMapper$Nand" 49 ⟨"CellMapper$Node", "root", "()Z"⟩) ∈ lw_g := List.mem_filter.mpr ⟨List.mem_append_right _ (List.mem_of_getElem? (i := 523) (by decide +kernel)), rfl⟩
theorem wd_524 : (Cond.constant "CellMapper$Nand" 18 (268435456 : Int32)) ∈ lw_g := List.mem_filter.mpr ⟨List.mem_append_right _ (List.mem_of_getElem? (i := 524) (by decide +kernel)), rfl⟩
theorem wd_525 : (Cond.methodLink "CellMapper$Nand" 53 ⟨"CellMapper$Nand", "straight", "(LCellMapper$Node;)I"⟩) ∈ lw_g := List.mem_filter.mpr ⟨List.mem_append_right _ (List.mem_of_getElem? (i := 525) (by decide +kernel)), rfl⟩
theorem wd_530 : (Cond.methodLink "CellMapper$Nand" 25 ⟨"CellMapper$Pattern", "lay", "(LCellMapper$Node;Z)I"⟩) ∈ lw_g := List.mem_filter.mpr ⟨List.mem_append_right _ (List.mem_of_getElem? (i := 530) (by decide +kernel)), rfl⟩
theorem wd_537 : (Cond.methodLink "CellMapper$Pin" 13 ⟨"CellMapper$Node", "inner", "()Z"⟩) ∈ lw_g := List.mem_filter.mpr ⟨List.mem_append_right _ (List.mem_of_getElem? (i := 537) (by decide +kernel)), rfl⟩
theorem wd_541 : (Cond.methodLink "CellMapper$Node" 49 ⟨"CellMapper$Node", "root", "()Z"⟩) ∈ lw_g := List.mem_filter.mpr ⟨List.mem_append_right _ (List.mem_of_getElem? (i := 541) (by decide +kernel)), rfl⟩
theorem wd_542 : (Cond.methodLink "CellMapper$Nand" 34 ⟨"java/lang/Math", "min", "(II)I"⟩) ∈ lw_g := List.mem_filter.mpr ⟨List.mem_append_right _ (List.mem_of_getElem? (i := 542) (by decide +kernel)), rfl⟩
theorem wd_543 : (Cond.methodLink "CellMapper$Nand" 57 ⟨"CellMapper$Nand", "swapped", "(LCellMapper$Node;)I"⟩) ∈ lw_g := List.mem_filter.mpr ⟨List.mem_append_right _ (List.mem_of_getElem? (i := 543) (by decide +kernel)), rfl⟩
theorem wd_547 : (Cond.methodLink "CellMapper" 234 ⟨"java/lang/Math", "min", "(II)I"⟩) ∈ lw_g := List.mem_filter.mpr ⟨List.mem_append_right _ (List.mem_of_getElem? (i := 547) (by decide +kernel)), rfl⟩
theorem wd_548 : (Cond.methodLink "CellMapper" 314 ⟨"CellMapper", "connect", "()V"⟩) ∈ lw_g := List.mem_filter.mpr ⟨List.mem_append_right _ (List.mem_of_getElem? (i := 548) (by decide +kernel)), rfl⟩
theorem wd_552 : (Cond.methodLink "CellMapper" 244 ⟨"CellMapper$Node", "root", "()Z"⟩) ∈ lw_g := List.mem_filter.mpr ⟨List.mem_append_right _ (List.mem_of_getElem? (i := 552) (by decide +kernel)), rfl⟩
theorem wd_554 : (Cond.methodLink "CellMapper" 247 ⟨"CellMapper$Pattern", "bind", "(LCellMapper$Node;[LCellMapper$Node;I)V"⟩) ∈ lw_g := List.mem_filter.mpr ⟨List.mem_append_right _ (List.mem_of_getElem? (i := 554) (by decide +kernel)), rfl⟩
theorem wd_563 : (Cond.methodLink "CellMapper$Inv" 41 ⟨"CellMapper$Pattern", "bind", "(LCellMapper$Node;[LCellMapper$Node;I)V"⟩) ∈ lw_g := List.mem_filter.mpr ⟨List.mem_append_right _ (List.mem_of_getElem? (i := 563) (by decide +kernel)), rfl⟩
theorem wd_570 : (Cond.methodLink "CellMapper$Nand" 60 ⟨"CellMapper$Pattern", "bind", "(LCellMapper$Node;[LCellMapper$Node;I)V"⟩) ∈ lw_g := List.mem_filter.mpr ⟨List.mem_append_right _ (List.mem_of_getElem? (i := 570) (by decide +kernel)), rfl⟩
theorem wd_576 : (Cond.methodLink "CellMapper" 252 ⟨"CellMapper$Node", "inner", "()Z"⟩) ∈ lw_g := List.mem_filter.mpr ⟨List.mem_append_right _ (List.mem_of_getElem? (i := 576) (by decide +kernel)), rfl⟩
theorem wd_577 : (Cond.methodLink "CellMapper" 255 ⟨"CellMapper", "trace", "(I)V"⟩) ∈ lw_g := List.mem_filter.mpr ⟨List.mem_append_right _ (List.mem_of_getElem? (i := 577) (by decide +kernel)), rfl⟩
theorem wd_581 : (Cond.methodLink "CellMapper" 317 ⟨"CellMapper", "retime", "()V"⟩) ∈ lw_g := List.mem_filter.mpr ⟨List.mem_append_right _ (List.mem_of_getElem? (i := 581) (by decide +kernel)), rfl⟩
theorem wd_585 : (Cond.methodLink "CellMapper" 277 ⟨"CellMapper", "ways", "()I"⟩) ∈ lw_g := List.mem_filter.mpr ⟨List.mem_append_right _ (List.mem_of_getElem? (i := 585) (by decide +kernel)), rfl⟩
theorem wd_589 : (Cond.methodLink "CellMapper" 270 ⟨"CellMapper", "left", "(I)I"⟩) ∈ lw_g := List.mem_filter.mpr ⟨List.mem_append_right _ (List.mem_of_getElem? (i := 589) (by decide +kernel)), rfl⟩
theorem wd_593 : (Cond.methodLink "CellMapper" 258 ⟨"CellMapper", "sink", "(I)LCellMapper$Node;"⟩) ∈ lw_g := List.mem_filter.mpr ⟨List.mem_append_right _ (List.mem_of_getElem? (i := 593) (by decide +kernel)), rfl⟩
theorem wd_597 : (Cond.methodLink "CellMapper" 274 ⟨"java/lang/Math", "max", "(II)I"⟩) ∈ lw_g := List.mem_filter.mpr ⟨List.mem_append_right _ (List.mem_of_getElem? (i := 597) (by decide +kernel)), rfl⟩
theorem wd_598 : (Cond.methodLink "CellMapper" 286 ⟨"CellMapper", "reachable", "(I)Z"⟩) ∈ lw_g := List.mem_filter.mpr ⟨List.mem_append_right _ (List.mem_of_getElem? (i := 598) (by decide +kernel)), rfl⟩
theorem wd_602 : (Cond.methodLink "CellMapper" 280 ⟨"CellMapper", "lacking", "()Z"⟩) ∈ lw_g := List.mem_filter.mpr ⟨List.mem_append_right _ (List.mem_of_getElem? (i := 602) (by decide +kernel)), rfl⟩
theorem wd_606 : (Cond.methodLink "CellMapper" 292 ⟨"CellMapper", "movable", "(LCellMapper$Node;)Z"⟩) ∈ lw_g := List.mem_filter.mpr ⟨List.mem_append_right _ (List.mem_of_getElem? (i := 606) (by decide +kernel)), rfl⟩
theorem wd_610 : (Cond.methodLink "CellMapper" 296 ⟨"CellMapper", "move", "(LCellMapper$Node;)V"⟩) ∈ lw_g := List.mem_filter.mpr ⟨List.mem_append_right _ (List.mem_of_getElem? (i := 610) (by decide +kernel)), rfl⟩
theorem wd_615 : (Cond.methodLink "CellMapper" 299 ⟨"CellMapper$Pattern", "value", "(I)I"⟩) ∈ lw_g := List.mem_filter.mpr ⟨List.mem_append_right _ (List.mem_of_getElem? (i := 615) (by decide +kernel)), rfl⟩
theorem wd_624 : (Cond.methodLink "CellMapper$Inv" 45 ⟨"CellMapper$Pattern", "value", "(I)I"⟩) ∈ lw_g := List.mem_filter.mpr ⟨List.mem_append_right _ (List.mem_of_getElem? (i := 624) (by decide +kernel)), rfl⟩
theorem wd_631 : (Cond.methodLink "CellMapper$Nand" 64 ⟨"CellMapper$Pattern", "value", "(I)I"⟩) ∈ lw_g := List.mem_filter.mpr ⟨List.mem_append_right _ (List.mem_of_getElem? (i := 631) (by decide +kernel)), rfl⟩
theorem wd_637 : (Cond.methodLink "CellMapper" 320 ⟨"CellMapper", "restart", "()V"⟩) ∈ lw_g := List.mem_filter.mpr ⟨List.mem_append_right _ (List.mem_of_getElem? (i := 637) (by decide +kernel)), rfl⟩
theorem wd_641 : (Cond.methodLink "CellMapper" 323 ⟨"java/lang/System", "arraycopy", "(Ljava/lang/Object;ILjava/lang/Object;II)V"⟩) ∈ lw_g := List.mem_filter.mpr ⟨List.mem_append_right _ (List.mem_of_getElem? (i := 641) (by decide +kernel)), rfl⟩
theorem wd_642 : (Cond.methodLink "CellMapperLaw" 59 ⟨"CellMapper", "area", "()I"⟩) ∈ lw_g := List.mem_filter.mpr ⟨List.mem_append_right _ (List.mem_of_getElem? (i := 642) (by decide +kernel)), rfl⟩
theorem wd_646 : (Cond.methodLink "CellMapperLaw" 63 ⟨"CellMapper", "cellAt", "(I)I"⟩) ∈ lw_g := List.mem_filter.mpr ⟨List.mem_append_right _ (List.mem_of_getElem? (i := 646) (by decide +kernel)), rfl⟩
theorem wd_650 : (Cond.methodLink "CellMapper" 329 ⟨"CellMapper", "gateAt", "(I)LCellMapper$Node;"⟩) ∈ lw_g := List.mem_filter.mpr ⟨List.mem_append_right _ (List.mem_of_getElem? (i := 650) (by decide +kernel)), rfl⟩
theorem wd_654 : (Cond.methodLink "CellMapperLaw" 67 ⟨"CellMapper", "period", "()I"⟩) ∈ lw_g := List.mem_filter.mpr ⟨List.mem_append_right _ (List.mem_of_getElem? (i := 654) (by decide +kernel)), rfl⟩
theorem wd_658 : (Cond.methodLink "CellMapperLaw" 71 ⟨"CellMapper", "shortest", "()I"⟩) ∈ lw_g := List.mem_filter.mpr ⟨List.mem_append_right _ (List.mem_of_getElem? (i := 658) (by decide +kernel)), rfl⟩
theorem wd_662 : (Cond.methodLink "CellMapperLaw" 75 ⟨"CellMapper", "moves", "(I)I"⟩) ∈ lw_g := List.mem_filter.mpr ⟨List.mem_append_right _ (List.mem_of_getElem? (i := 662) (by decide +kernel)), rfl⟩
theorem wd_666 : (Cond.methodLink "CellMapperLaw" 79 ⟨"CellMapper", "latches", "(II)J"⟩) ∈ lw_g := List.mem_filter.mpr ⟨List.mem_append_right _ (List.mem_of_getElem? (i := 666) (by decide +kernel)), rfl⟩
theorem wd_670 : (Cond.constantLong "CellMapper" 333 (-6 : Int64)) ∈ lw_g := List.mem_filter.mpr ⟨List.mem_append_right _ (List.mem_of_getElem? (i := 670) (by decide +kernel)), rfl⟩
theorem wd_671 : (Cond.constantLong "CellMapper" 335 (-1 : Int64)) ∈ lw_g := List.mem_filter.mpr ⟨List.mem_append_right _ (List.mem_of_getElem? (i := 671) (by decide +kernel)), rfl⟩
theorem wd_672 : (Cond.constantLong "CellMapper" 337 (64 : Int64)) ∈ lw_g := List.mem_filter.mpr ⟨List.mem_append_right _ (List.mem_of_getElem? (i := 672) (by decide +kernel)), rfl⟩
theorem wd_673 : (Cond.methodLink "CellMapperLaw" 84 ⟨"CellMapper", "clock", "(I)I"⟩) ∈ lw_g := List.mem_filter.mpr ⟨List.mem_append_right _ (List.mem_of_getElem? (i := 673) (by decide +kernel)), rfl⟩
theorem wd_677 : (Cond.methodLink "CellMapper" 341 ⟨"CellMapper", "feed", "(Ljava/util/ArrayList;I)V"⟩) ∈ lw_g := List.mem_filter.mpr ⟨List.mem_append_right _ (List.mem_of_getElem? (i := 677) (by decide +kernel)), rfl⟩
theorem wd_680 : (Cond.methodLink "CellMapper" 345 ⟨"CellMapper$Kind", "ordinal", "()I"⟩) ∈ lw_g := List.mem_filter.mpr ⟨List.mem_append_right _ (List.mem_of_getElem? (i := 680) (by decide +kernel)), rfl⟩
theorem wd_686 : (Cond.methodLink "CellMapperLaw" 88 ⟨"CellMapper", "clockRetimed", "(I)I"⟩) ∈ lw_g := List.mem_filter.mpr ⟨List.mem_append_right _ (List.mem_of_getElem? (i := 686) (by decide +kernel)), rfl⟩
theorem wd_690 : (Cond.methodLink "CellMapper" 348 ⟨"CellMapper", "arrives", "(I)I"⟩) ∈ lw_g := List.mem_filter.mpr ⟨List.mem_append_right _ (List.mem_of_getElem? (i := 690) (by decide +kernel)), rfl⟩
theorem wd_694 : (Cond.methodLink "CellMapperLaw" 92 ⟨"CellMapper", "reset", "()V"⟩) ∈ lw_g := List.mem_filter.mpr ⟨List.mem_append_right _ (List.mem_of_getElem? (i := 694) (by decide +kernel)), rfl⟩
theorem wd_698 : (Cond.classLink "CellMapperLaw" 10 "CellMapperModel") ∈ lw_g := List.mem_filter.mpr ⟨List.mem_append_right _ (List.mem_of_getElem? (i := 698) (by decide +kernel)), rfl⟩
theorem wd_699 : (Cond.instantiable "CellMapperModel" 51) ∈ lw_g := List.mem_filter.mpr ⟨List.mem_append_right _ (List.mem_of_getElem? (i := 699) (by decide +kernel)), rfl⟩
theorem wd_700 : (Cond.methodLink "CellMapperLaw" 12 ⟨"CellMapperModel", "<init>", "()V"⟩) ∈ lw_g := List.mem_filter.mpr ⟨List.mem_append_right _ (List.mem_of_getElem? (i := 700) (by decide +kernel)), rfl⟩
theorem wd_703 : (Cond.methodLink "CellMapperModel" 1 ⟨"java/lang/Object", "<init>", "()V"⟩) ∈ lw_g := List.mem_filter.mpr ⟨List.mem_append_right _ (List.mem_of_getElem? (i := 703) (by decide +kernel)), rfl⟩
theorem wd_704 : (Cond.fieldLink "CellMapperModel" 168 "CellMapperModel" "nets" "I") ∈ lw_g := List.mem_filter.mpr ⟨List.mem_append_right _ (List.mem_of_getElem? (i := 704) (by decide +kernel)), rfl⟩
theorem wd_705 : (Cond.fieldLink "CellMapperModel" 7 "CellMapperModel" "sort" "[I") ∈ lw_g := List.mem_filter.mpr ⟨List.mem_append_right _ (List.mem_of_getElem? (i := 705) (by decide +kernel)), rfl⟩
theorem wd_706 : (Cond.fieldLink "CellMapperModel" 13 "CellMapperModel" "nodeAt" "[I") ∈ lw_g := List.mem_filter.mpr ⟨List.mem_append_right _ (List.mem_of_getElem? (i := 706) (by decide +kernel)), rfl⟩
theorem wd_707 : (Cond.fieldLink "CellMapperModel" 16 "CellMapperModel" "first" "[I") ∈ lw_g := List.mem_filter.mpr ⟨List.mem_append_right _ (List.mem_of_getElem? (i := 707) (by decide +kernel)), rfl⟩
theorem wd_708 : (Cond.fieldLink "CellMapperModel" 19 "CellMapperModel" "now" "[I") ∈ lw_g := List.mem_filter.mpr ⟨List.mem_append_right _ (List.mem_of_getElem? (i := 708) (by decide +kernel)), rfl⟩
theorem wd_709 : (Cond.fieldLink "CellMapperModel" 22 "CellMapperModel" "driver" "[I") ∈ lw_g := List.mem_filter.mpr ⟨List.mem_append_right _ (List.mem_of_getElem? (i := 709) (by decide +kernel)), rfl⟩
theorem wd_710 : (Cond.fieldLink "CellMapperModel" 25 "CellMapperModel" "argA" "[I") ∈ lw_g := List.mem_filter.mpr ⟨List.mem_append_right _ (List.mem_of_getElem? (i := 710) (by decide +kernel)), rfl⟩
theorem wd_711 : (Cond.fieldLink "CellMapperModel" 28 "CellMapperModel" "argB" "[I") ∈ lw_g := List.mem_filter.mpr ⟨List.mem_append_right _ (List.mem_of_getElem? (i := 711) (by decide +kernel)), rfl⟩
theorem wd_712 : (Cond.fieldLink "CellMapperModel" 31 "CellMapperModel" "argC" "[I") ∈ lw_g := List.mem_filter.mpr ⟨List.mem_append_right _ (List.mem_of_getElem? (i := 712) (by decide +kernel)), rfl⟩
theorem wd_713 : (Cond.fieldLink "CellMapperModel" 34 "CellMapperModel" "tableOf" "[I") ∈ lw_g := List.mem_filter.mpr ⟨List.mem_append_right _ (List.mem_of_getElem? (i := 713) (by decide +kernel)), rfl⟩
theorem wd_714 : (Cond.fieldLink "CellMapperModel" 37 "CellMapperModel" "value" "[I") ∈ lw_g := List.mem_filter.mpr ⟨List.mem_append_right _ (List.mem_of_getElem? (i := 714) (by decide +kernel)), rfl⟩
theorem wd_715 : (Cond.fieldLink "CellMapperModel" 178 "CellMapperModel" "inputs" "I") ∈ lw_g := List.mem_filter.mpr ⟨List.mem_append_right _ (List.mem_of_getElem? (i := 715) (by decide +kernel)), rfl⟩
theorem wd_716 : (Cond.fieldLink "CellMapperModel" 184 "CellMapperModel" "latchCount" "I") ∈ lw_g := List.mem_filter.mpr ⟨List.mem_append_right _ (List.mem_of_getElem? (i := 716) (by decide +kernel)), rfl⟩
theorem wd_717 : (Cond.fieldLink "CellMapperModel" 135 "CellMapperModel" "nodeCount" "I") ∈ lw_g := List.mem_filter.mpr ⟨List.mem_append_right _ (List.mem_of_getElem? (i := 717) (by decide +kernel)), rfl⟩
theorem wd_718 : (Cond.fieldLink "CellMapperModel" 40 "CellMapperModel" "kind" "[I") ∈ lw_g := List.mem_filter.mpr ⟨List.mem_append_right _ (List.mem_of_getElem? (i := 718) (by decide +kernel)), rfl⟩
theorem wd_719 : (Cond.fieldLink "CellMapperModel" 43 "CellMapperModel" "px" "[I") ∈ lw_g := List.mem_filter.mpr ⟨List.mem_append_right _ (List.mem_of_getElem? (i := 719) (by decide +kernel)), rfl⟩
theorem wd_720 : (Cond.fieldLink "CellMapperModel" 46 "CellMapperModel" "py" "[I") ∈ lw_g := List.mem_filter.mpr ⟨List.mem_append_right _ (List.mem_of_getElem? (i := 720) (by decide +kernel)), rfl⟩
theorem wd_721 : (Cond.fieldLink "CellMapperModel" 49 "CellMapperModel" "netOf" "[I") ∈ lw_g := List.mem_filter.mpr ⟨List.mem_append_right _ (List.mem_of_getElem? (i := 721) (by decide +kernel)), rfl⟩
theorem wd_722 : (Cond.fieldLink "CellMapperModel" 194 "CellMapperModel" "outputs" "I") ∈ lw_g := List.mem_filter.mpr ⟨List.mem_append_right _ (List.mem_of_getElem? (i := 722) (by decide +kernel)), rfl⟩
theorem wd_723 : (Cond.fieldLink "CellMapperModel" 52 "CellMapperModel" "outputNet" "[I") ∈ lw_g := List.mem_filter.mpr ⟨List.mem_append_right _ (List.mem_of_getElem? (i := 723) (by decide +kernel)), rfl⟩
theorem wd_724 : (Cond.fieldLink "CellMapperModel" 200 "CellMapperModel" "cells" "I") ∈ lw_g := List.mem_filter.mpr ⟨List.mem_append_right _ (List.mem_of_getElem? (i := 724) (by decide +kernel)), rfl⟩
theorem wd_725 : (Cond.fieldLink "CellMapperModel" 55 "CellMapperModel" "pattern" "[I") ∈ lw_g := List.mem_filter.mpr ⟨List.mem_append_right _ (List.mem_of_getElem? (i := 725) (by decide +kernel)), rfl⟩
theorem wd_726 : (Cond.fieldLink "CellMapperModel" 58 "CellMapperModel" "areaOf" "[I") ∈ lw_g := List.mem_filter.mpr ⟨List.mem_append_right _ (List.mem_of_getElem? (i := 726) (by decide +kernel)), rfl⟩
theorem wd_727 : (Cond.fieldLink "CellMapperModel" 61 "CellMapperModel" "delayOf" "[I") ∈ lw_g := List.mem_filter.mpr ⟨List.mem_append_right _ (List.mem_of_getElem? (i := 727) (by decide +kernel)), rfl⟩
theorem wd_728 : (Cond.fieldLink "CellMapperModel" 171 "CellMapperModel" "mapped" "Z") ∈ lw_g := List.mem_filter.mpr ⟨List.mem_append_right _ (List.mem_of_getElem? (i := 728) (by decide +kernel)), rfl⟩
theorem wd_729 : (Cond.fieldLink "CellMapperModel" 64 "CellMapperModel" "live" "[Z") ∈ lw_g := List.mem_filter.mpr ⟨List.mem_append_right _ (List.mem_of_getElem? (i := 729) (by decide +kernel)), rfl⟩
theorem wd_730 : (Cond.fieldLink "CellMapperModel" 68 "CellMapperModel" "root" "[Z") ∈ lw_g := List.mem_filter.mpr ⟨List.mem_append_right _ (List.mem_of_getElem? (i := 730) (by decide +kernel)), rfl⟩
theorem wd_731 : (Cond.fieldLink "CellMapperModel" 71 "CellMapperModel" "readers" "[I") ∈ lw_g := List.mem_filter.mpr ⟨List.mem_append_right _ (List.mem_of_getElem? (i := 731) (by decide +kernel)), rfl⟩
theorem wd_732 : (Cond.fieldLink "CellMapperModel" 74 "CellMapperModel" "cost" "[I") ∈ lw_g := List.mem_filter.mpr ⟨List.mem_append_right _ (List.mem_of_getElem? (i := 732) (by decide +kernel)), rfl⟩
theorem wd_733 : (Cond.fieldLink "CellMapperModel" 77 "CellMapperModel" "choice" "[I") ∈ lw_g := List.mem_filter.mpr ⟨List.mem_append_right _ (List.mem_of_getElem? (i := 733) (by decide +kernel)), rfl⟩
theorem wd_734 : (Cond.fieldLink "CellMapperModel" 80 "CellMapperModel" "swaps" "[I") ∈ lw_g := List.mem_filter.mpr ⟨List.mem_append_right _ (List.mem_of_getElem? (i := 734) (by decide +kernel)), rfl⟩
theorem wd_735 : (Cond.fieldLink "CellMapperModel" 83 "CellMapperModel" "gate" "[Z") ∈ lw_g := List.mem_filter.mpr ⟨List.mem_append_right _ (List.mem_of_getElem? (i := 735) (by decide +kernel)), rfl⟩
theorem wd_736 : (Cond.fieldLink "CellMapperModel" 86 "CellMapperModel" "stack" "[I") ∈ lw_g := List.mem_filter.mpr ⟨List.mem_append_right _ (List.mem_of_getElem? (i := 736) (by decide +kernel)), rfl⟩
theorem wd_737 : (Cond.fieldLink "CellMapperModel" 89 "CellMapperModel" "pinNode" "[I") ∈ lw_g := List.mem_filter.mpr ⟨List.mem_append_right _ (List.mem_of_getElem? (i := 737) (by decide +kernel)), rfl⟩
theorem wd_738 : (Cond.fieldLink "CellMapperModel" 213 "CellMapperModel" "pins" "I") ∈ lw_g := List.mem_filter.mpr ⟨List.mem_append_right _ (List.mem_of_getElem? (i := 738) (by decide +kernel)), rfl⟩
theorem wd_739 : (Cond.fieldLink "CellMapperModel" 92 "CellMapperModel" "source" "[I") ∈ lw_g := List.mem_filter.mpr ⟨List.mem_append_right _ (List.mem_of_getElem? (i := 739) (by decide +kernel)), rfl⟩
theorem wd_740 : (Cond.fieldLink "CellMapperModel" 95 "CellMapperModel" "latchesAt" "[I") ∈ lw_g := List.mem_filter.mpr ⟨List.mem_append_right _ (List.mem_of_getElem? (i := 740) (by decide +kernel)), rfl⟩
theorem wd_741 : (Cond.fieldLink "CellMapperModel" 98 "CellMapperModel" "starts" "[J") ∈ lw_g := List.mem_filter.mpr ⟨List.mem_append_right _ (List.mem_of_getElem? (i := 741) (by decide +kernel)), rfl⟩
theorem wd_742 : (Cond.fieldLink "CellMapperModel" 102 "CellMapperModel" "kept" "[I") ∈ lw_g := List.mem_filter.mpr ⟨List.mem_append_right _ (List.mem_of_getElem? (i := 742) (by decide +kernel)), rfl⟩
theorem wd_743 : (Cond.fieldLink "CellMapperModel" 105 "CellMapperModel" "later" "[J") ∈ lw_g := List.mem_filter.mpr ⟨List.mem_append_right _ (List.mem_of_getElem? (i := 743) (by decide +kernel)), rfl⟩
theorem wd_744 : (Cond.fieldLink "CellMapperModel" 108 "CellMapperModel" "present" "[J") ∈ lw_g := List.mem_filter.mpr ⟨List.mem_append_right _ (List.mem_of_getElem? (i := 744) (by decide +kernel)), rfl⟩
theorem wd_745 : (Cond.fieldLink "CellMapperModel" 111 "CellMapperModel" "far" "[I") ∈ lw_g := List.mem_filter.mpr ⟨List.mem_append_right _ (List.mem_of_getElem? (i := 745) (by decide +kernel)), rfl⟩
theorem wd_746 : (Cond.fieldLink "CellMapperModel" 114 "CellMapperModel" "slow" "[I") ∈ lw_g := List.mem_filter.mpr ⟨List.mem_append_right _ (List.mem_of_getElem? (i := 746) (by decide +kernel)), rfl⟩
theorem wd_747 : (Cond.fieldLink "CellMapperModel" 117 "CellMapperModel" "move" "[I") ∈ lw_g := List.mem_filter.mpr ⟨List.mem_append_right _ (List.mem_of_getElem? (i := 747) (by decide +kernel)), rfl⟩
theorem wd_748 : (Cond.fieldLink "CellMapperModel" 237 "CellMapperModel" "periodBefore" "I") ∈ lw_g := List.mem_filter.mpr ⟨List.mem_append_right _ (List.mem_of_getElem? (i := 748) (by decide +kernel)), rfl⟩
theorem wd_749 : (Cond.fieldLink "CellMapperModel" 246 "CellMapperModel" "periodAfter" "I") ∈ lw_g := List.mem_filter.mpr ⟨List.mem_append_right _ (List.mem_of_getElem? (i := 749) (by decide +kernel)), rfl⟩
theorem wd_750 : (Cond.fieldLink "CellMapperModel" 120 "CellMapperModel" "gave" "[I") ∈ lw_g := List.mem_filter.mpr ⟨List.mem_append_right _ (List.mem_of_getElem? (i := 750) (by decide +kernel)), rfl⟩
theorem wd_751 : (Cond.fieldLink "CellMapperModel" 123 "CellMapperModel" "given" "[I") ∈ lw_g := List.mem_filter.mpr ⟨List.mem_append_right _ (List.mem_of_getElem? (i := 751) (by decide +kernel)), rfl⟩
theorem wd_752 : (Cond.fieldLink "CellMapperModel" 126 "CellMapperModel" "known" "[Z") ∈ lw_g := List.mem_filter.mpr ⟨List.mem_append_right _ (List.mem_of_getElem? (i := 752) (by decide +kernel)), rfl⟩
theorem wd_753 : (Cond.fieldLink "CellMapperModel" 129 "CellMapperModel" "signal" "[I") ∈ lw_g := List.mem_filter.mpr ⟨List.mem_append_right _ (List.mem_of_getElem? (i := 753) (by decide +kernel)), rfl⟩
theorem wd_754 : (Cond.fieldLink "CellMapperModel" 132 "CellMapperModel" "operand" "[I") ∈ lw_g := List.mem_filter.mpr ⟨List.mem_append_right _ (List.mem_of_getElem? (i := 754) (by decide +kernel)), rfl⟩
theorem wd_858 : (Cond.arrayClass .boolean) ∈ lw_g := List.mem_filter.mpr ⟨List.mem_append_right _ (List.mem_of_getElem? (i := 858) (by decide +kernel)), rfl⟩
theorem wd_859 : (Cond.methodLink "CellMapperLaw" 17 ⟨"CellMapperModel", "input", "()I"⟩) ∈ lw_g := List.mem_filter.mpr ⟨List.mem_append_right _ (List.mem_of_getElem? (i := 859) (by decide +kernel)), rfl⟩
theorem wd_863 : (Cond.methodLink "CellMapperModel" 139 ⟨"CellMapperModel", "newNode", "(IIII)I"⟩) ∈ lw_g := List.mem_filter.mpr ⟨List.mem_append_right _ (List.mem_of_getElem? (i := 863) (by decide +kernel)), rfl⟩
theorem wd_867 : (Cond.methodLink "CellMapperModel" 181 ⟨"CellMapperModel", "newNet", "(III)I"⟩) ∈ lw_g := List.mem_filter.mpr ⟨List.mem_append_right _ (List.mem_of_getElem? (i := 867) (by decide +kernel)), rfl⟩
theorem wd_871 : (Cond.methodLink "CellMapperModel" 175 ⟨"CellMapperModel", "changed", "()V"⟩) ∈ lw_g := List.mem_filter.mpr ⟨List.mem_append_right _ (List.mem_of_getElem? (i := 871) (by decide +kernel)), rfl⟩
theorem wd_875 : (Cond.methodLink "CellMapperLaw" 22 ⟨"CellMapperModel", "latch", "(I)I"⟩) ∈ lw_g := List.mem_filter.mpr ⟨List.mem_append_right _ (List.mem_of_getElem? (i := 875) (by decide +kernel)), rfl⟩
theorem wd_879 : (Cond.methodLink "CellMapperLaw" 27 ⟨"CellMapperModel", "function", "(IIII)I"⟩) ∈ lw_g := List.mem_filter.mpr ⟨List.mem_append_right _ (List.mem_of_getElem? (i := 879) (by decide +kernel)), rfl⟩
theorem wd_883 : (Cond.methodLink "CellMapperModel" 187 ⟨"CellMapperModel", "isNet", "(I)Z"⟩) ∈ lw_g := List.mem_filter.mpr ⟨List.mem_append_right _ (List.mem_of_getElem? (i := 883) (by decide +kernel)), rfl⟩
theorem wd_887 : (Cond.methodLink "CellMapperModel" 191 ⟨"CellMapperModel", "overThree", "(IIII)I"⟩) ∈ lw_g := List.mem_filter.mpr ⟨List.mem_append_right _ (List.mem_of_getElem? (i := 887) (by decide +kernel)), rfl⟩
theorem wd_891 : (Cond.methodLink "CellMapperModel" 165 ⟨"CellMapperModel", "overTwo", "(III)I"⟩) ∈ lw_g := List.mem_filter.mpr ⟨List.mem_append_right _ (List.mem_of_getElem? (i := 891) (by decide +kernel)), rfl⟩
theorem wd_895 : (Cond.methodLink "CellMapperModel" 159 ⟨"CellMapperModel", "overOne", "(II)I"⟩) ∈ lw_g := List.mem_filter.mpr ⟨List.mem_append_right _ (List.mem_of_getElem? (i := 895) (by decide +kernel)), rfl⟩
theorem wd_899 : (Cond.methodLink "CellMapperModel" 155 ⟨"CellMapperModel", "join", "(IIIII)I"⟩) ∈ lw_g := List.mem_filter.mpr ⟨List.mem_append_right _ (List.mem_of_getElem? (i := 899) (by decide +kernel)), rfl⟩
theorem wd_903 : (Cond.methodLink "CellMapperModel" 147 ⟨"CellMapperModel", "inv", "(I)I"⟩) ∈ lw_g := List.mem_filter.mpr ⟨List.mem_append_right _ (List.mem_of_getElem? (i := 903) (by decide +kernel)), rfl⟩
theorem wd_907 : (Cond.methodLink "CellMapperModel" 143 ⟨"CellMapperModel", "find", "(III)I"⟩) ∈ lw_g := List.mem_filter.mpr ⟨List.mem_append_right _ (List.mem_of_getElem? (i := 907) (by decide +kernel)), rfl⟩
theorem wd_911 : (Cond.methodLink "CellMapperModel" 151 ⟨"CellMapperModel", "nand", "(II)I"⟩) ∈ lw_g := List.mem_filter.mpr ⟨List.mem_append_right _ (List.mem_of_getElem? (i := 911) (by decide +kernel)), rfl⟩
theorem wd_915 : (Cond.methodLink "CellMapperModel" 162 ⟨"CellMapperModel", "flat", "(II)I"⟩) ∈ lw_g := List.mem_filter.mpr ⟨List.mem_append_right _ (List.mem_of_getElem? (i := 915) (by decide +kernel)), rfl⟩
theorem wd_918 : (Cond.methodLink "CellMapperLaw" 32 ⟨"CellMapperModel", "drive", "(II)Z"⟩) ∈ lw_g := List.mem_filter.mpr ⟨List.mem_append_right _ (List.mem_of_getElem? (i := 918) (by decide +kernel)), rfl⟩
theorem wd_922 : (Cond.methodLink "CellMapperLaw" 36 ⟨"CellMapperModel", "output", "(I)I"⟩) ∈ lw_g := List.mem_filter.mpr ⟨List.mem_append_right _ (List.mem_of_getElem? (i := 922) (by decide +kernel)), rfl⟩
theorem wd_926 : (Cond.methodLink "CellMapperLaw" 41 ⟨"CellMapperModel", "cell", "(III)I"⟩) ∈ lw_g := List.mem_filter.mpr ⟨List.mem_append_right _ (List.mem_of_getElem? (i := 926) (by decide +kernel)), rfl⟩
theorem wd_930 : (Cond.methodLink "CellMapperModel" 197 ⟨"CellMapperModel", "isPattern", "(I)Z"⟩) ∈ lw_g := List.mem_filter.mpr ⟨List.mem_append_right _ (List.mem_of_getElem? (i := 930) (by decide +kernel)), rfl⟩
theorem wd_933 : (Cond.methodLink "CellMapperLaw" 45 ⟨"CellMapperModel", "nodes", "()I"⟩) ∈ lw_g := List.mem_filter.mpr ⟨List.mem_append_right _ (List.mem_of_getElem? (i := 933) (by decide +kernel)), rfl⟩
theorem wd_937 : (Cond.methodLink "CellMapperLaw" 49 ⟨"CellMapperModel", "nodeOf", "(I)I"⟩) ∈ lw_g := List.mem_filter.mpr ⟨List.mem_append_right _ (List.mem_of_getElem? (i := 937) (by decide +kernel)), rfl⟩
theorem wd_941 : (Cond.methodLink "CellMapperLaw" 54 ⟨"CellMapperModel", "part", "(II)I"⟩) ∈ lw_g := List.mem_filter.mpr ⟨List.mem_append_right _ (List.mem_of_getElem? (i := 941) (by decide +kernel)), rfl⟩
theorem wd_945 : (Cond.methodLink "CellMapperLaw" 58 ⟨"CellMapperModel", "map", "()I"⟩) ∈ lw_g := List.mem_filter.mpr ⟨List.mem_append_right _ (List.mem_of_getElem? (i := 945) (by decide +kernel)), rfl⟩
theorem wd_949 : (Cond.methodLink "CellMapperModel" 265 ⟨"CellMapperModel", "undriven", "()Z"⟩) ∈ lw_g := List.mem_filter.mpr ⟨List.mem_append_right _ (List.mem_of_getElem? (i := 949) (by decide +kernel)), rfl⟩
theorem wd_953 : (Cond.methodLink "CellMapperModel" 269 ⟨"CellMapperModel", "ring", "()Z"⟩) ∈ lw_g := List.mem_filter.mpr ⟨List.mem_append_right _ (List.mem_of_getElem? (i := 953) (by decide +kernel)), rfl⟩
theorem wd_957 : (Cond.methodLink "CellMapperModel" 272 ⟨"CellMapperModel", "hasCell", "(I)Z"⟩) ∈ lw_g := List.mem_filter.mpr ⟨List.mem_append_right _ (List.mem_of_getElem? (i := 957) (by decide +kernel)), rfl⟩
theorem wd_961 : (Cond.methodLink "CellMapperModel" 275 ⟨"CellMapperModel", "cover", "()V"⟩) ∈ lw_g := List.mem_filter.mpr ⟨List.mem_append_right _ (List.mem_of_getElem? (i := 961) (by decide +kernel)), rfl⟩
theorem wd_965 : (Cond.methodLink "CellMapperModel" 220 ⟨"CellMapperModel", "findRoots", "()V"⟩) ∈ lw_g := List.mem_filter.mpr ⟨List.mem_append_right _ (List.mem_of_getElem? (i := 965) (by decide +kernel)), rfl⟩
theorem wd_969 : (Cond.methodLink "CellMapperModel" 206 ⟨"CellMapperModel", "needed", "(I)V"⟩) ∈ lw_g := List.mem_filter.mpr ⟨List.mem_append_right _ (List.mem_of_getElem? (i := 969) (by decide +kernel)), rfl⟩
theorem wd_973 : (Cond.methodLink "CellMapperModel" 203 ⟨"CellMapperModel", "logic", "(I)Z"⟩) ∈ lw_g := List.mem_filter.mpr ⟨List.mem_append_right _ (List.mem_of_getElem? (i := 973) (by decide +kernel)), rfl⟩
theorem wd_977 : (Cond.methodLink "CellMapperModel" 223 ⟨"CellMapperModel", "choose", "(I)V"⟩) ∈ lw_g := List.mem_filter.mpr ⟨List.mem_append_right _ (List.mem_of_getElem? (i := 977) (by decide +kernel)), rfl⟩
theorem wd_981 : (Cond.constant "CellMapperModel" 216 (1000000 : Int32)) ∈ lw_g := List.mem_filter.mpr ⟨List.mem_append_right _ (List.mem_of_getElem? (i := 981) (by decide +kernel)), rfl⟩
theorem wd_982 : (Cond.methodLink "CellMapperModel" 210 ⟨"CellMapperModel", "nands", "(I)I"⟩) ∈ lw_g := List.mem_filter.mpr ⟨List.mem_append_right _ (List.mem_of_getElem? (i := 982) (by decide +kernel)), rfl⟩
theorem wd_986 : (Cond.methodLink "CellMapperModel" 217 ⟨"CellMapperModel", "lay", "(III)I"⟩) ∈ lw_g := List.mem_filter.mpr ⟨List.mem_append_right _ (List.mem_of_getElem? (i := 986) (by decide +kernel)), rfl⟩
theorem wd_990 : (Cond.methodLink "CellMapperModel" 226 ⟨"CellMapperModel", "connect", "(II)V"⟩) ∈ lw_g := List.mem_filter.mpr ⟨List.mem_append_right _ (List.mem_of_getElem? (i := 990) (by decide +kernel)), rfl⟩
theorem wd_994 : (Cond.methodLink "CellMapperModel" 278 ⟨"CellMapperModel", "measure", "()V"⟩) ∈ lw_g := List.mem_filter.mpr ⟨List.mem_append_right _ (List.mem_of_getElem? (i := 994) (by decide +kernel)), rfl⟩
theorem wd_998 : (Cond.methodLink "CellMapperModel" 230 ⟨"CellMapperModel", "delay", "(I)I"⟩) ∈ lw_g := List.mem_filter.mpr ⟨List.mem_append_right _ (List.mem_of_getElem? (i := 998) (by decide +kernel)), rfl⟩
theorem wd_1002 : (Cond.methodLink "CellMapperModel" 233 ⟨"CellMapperModel", "shorter", "(III)V"⟩) ∈ lw_g := List.mem_filter.mpr ⟨List.mem_append_right _ (List.mem_of_getElem? (i := 1002) (by decide +kernel)), rfl⟩
theorem wd_1006 : (Cond.methodLink "CellMapperModel" 281 ⟨"CellMapperModel", "shorten", "()V"⟩) ∈ lw_g := List.mem_filter.mpr ⟨List.mem_append_right _ (List.mem_of_getElem? (i := 1006) (by decide +kernel)), rfl⟩
theorem wd_1010 : (Cond.methodLink "CellMapperModel" 243 ⟨"CellMapperModel", "reachable", "(I)Z"⟩) ∈ lw_g := List.mem_filter.mpr ⟨List.mem_append_right _ (List.mem_of_getElem? (i := 1010) (by decide +kernel)), rfl⟩
theorem wd_1014 : (Cond.methodLink "CellMapperModel" 240 ⟨"CellMapperModel", "raise", "(I)Z"⟩) ∈ lw_g := List.mem_filter.mpr ⟨List.mem_append_right _ (List.mem_of_getElem? (i := 1014) (by decide +kernel)), rfl⟩
theorem wd_1018 : (Cond.methodLink "CellMapperModel" 284 ⟨"CellMapperModel", "retime", "()V"⟩) ∈ lw_g := List.mem_filter.mpr ⟨List.mem_append_right _ (List.mem_of_getElem? (i := 1018) (by decide +kernel)), rfl⟩
theorem wd_1022 : (Cond.methodLink "CellMapperModel" 262 ⟨"CellMapperModel", "give", "(I)Z"⟩) ∈ lw_g := List.mem_filter.mpr ⟨List.mem_append_right _ (List.mem_of_getElem? (i := 1022) (by decide +kernel)), rfl⟩
theorem wd_1026 : (Cond.methodLink "CellMapperModel" 249 ⟨"CellMapperModel", "pinsOf", "(I)I"⟩) ∈ lw_g := List.mem_filter.mpr ⟨List.mem_append_right _ (List.mem_of_getElem? (i := 1026) (by decide +kernel)), rfl⟩
theorem wd_1030 : (Cond.methodLink "CellMapperModel" 252 ⟨"CellMapperModel", "told", "(II)Z"⟩) ∈ lw_g := List.mem_filter.mpr ⟨List.mem_append_right _ (List.mem_of_getElem? (i := 1030) (by decide +kernel)), rfl⟩
theorem wd_1034 : (Cond.methodLink "CellMapperModel" 256 ⟨"CellMapperModel", "comes", "(II)I"⟩) ∈ lw_g := List.mem_filter.mpr ⟨List.mem_append_right _ (List.mem_of_getElem? (i := 1034) (by decide +kernel)), rfl⟩
theorem wd_1038 : (Cond.methodLink "CellMapperModel" 259 ⟨"CellMapperModel", "work", "(II)I"⟩) ∈ lw_g := List.mem_filter.mpr ⟨List.mem_append_right _ (List.mem_of_getElem? (i := 1038) (by decide +kernel)), rfl⟩
theorem wd_1042 : (Cond.methodLink "CellMapperModel" 287 ⟨"CellMapperModel", "gates", "()I"⟩) ∈ lw_g := List.mem_filter.mpr ⟨List.mem_append_right _ (List.mem_of_getElem? (i := 1042) (by decide +kernel)), rfl⟩
theorem wd_1046 : (Cond.methodLink "CellMapperLaw" 62 ⟨"CellMapperModel", "area", "()I"⟩) ∈ lw_g := List.mem_filter.mpr ⟨List.mem_append_right _ (List.mem_of_getElem? (i := 1046) (by decide +kernel)), rfl⟩
theorem wd_1050 : (Cond.methodLink "CellMapperLaw" 66 ⟨"CellMapperModel", "cellAt", "(I)I"⟩) ∈ lw_g := List.mem_filter.mpr ⟨List.mem_append_right _ (List.mem_of_getElem? (i := 1050) (by decide +kernel)), rfl⟩
theorem wd_1054 : (Cond.methodLink "CellMapperModel" 291 ⟨"CellMapperModel", "isGate", "(I)Z"⟩) ∈ lw_g := List.mem_filter.mpr ⟨List.mem_append_right _ (List.mem_of_getElem? (i := 1054) (by decide +kernel)), rfl⟩
theorem wd_1058 : (Cond.methodLink "CellMapperLaw" 70 ⟨"CellMapperModel", "period", "()I"⟩) ∈ lw_g := List.mem_filter.mpr ⟨List.mem_append_right _ (List.mem_of_getElem? (i := 1058) (by decide +kernel)), rfl⟩
theorem wd_1062 : (Cond.methodLink "CellMapperLaw" 74 ⟨"CellMapperModel", "shortest", "()I"⟩) ∈ lw_g := List.mem_filter.mpr ⟨List.mem_append_right _ (List.mem_of_getElem? (i := 1062) (by decide +kernel)), rfl⟩
theorem wd_1066 : (Cond.methodLink "CellMapperLaw" 78 ⟨"CellMapperModel", "moves", "(I)I"⟩) ∈ lw_g := List.mem_filter.mpr ⟨List.mem_append_right _ (List.mem_of_getElem? (i := 1066) (by decide +kernel)), rfl⟩
theorem wd_1070 : (Cond.methodLink "CellMapperLaw" 83 ⟨"CellMapperModel", "latches", "(II)J"⟩) ∈ lw_g := List.mem_filter.mpr ⟨List.mem_append_right _ (List.mem_of_getElem? (i := 1070) (by decide +kernel)), rfl⟩
theorem wd_1074 : (Cond.constantLong "CellMapperModel" 294 (-6 : Int64)) ∈ lw_g := List.mem_filter.mpr ⟨List.mem_append_right _ (List.mem_of_getElem? (i := 1074) (by decide +kernel)), rfl⟩
theorem wd_1075 : (Cond.constantLong "CellMapperModel" 296 (-1 : Int64)) ∈ lw_g := List.mem_filter.mpr ⟨List.mem_append_right _ (List.mem_of_getElem? (i := 1075) (by decide +kernel)), rfl⟩
theorem wd_1076 : (Cond.constantLong "CellMapperModel" 298 (64 : Int64)) ∈ lw_g := List.mem_filter.mpr ⟨List.mem_append_right _ (List.mem_of_getElem? (i := 1076) (by decide +kernel)), rfl⟩
theorem wd_1077 : (Cond.methodLink "CellMapperLaw" 87 ⟨"CellMapperModel", "clock", "(I)I"⟩) ∈ lw_g := List.mem_filter.mpr ⟨List.mem_append_right _ (List.mem_of_getElem? (i := 1077) (by decide +kernel)), rfl⟩
theorem wd_1081 : (Cond.methodLink "CellMapperModel" 300 ⟨"CellMapperModel", "entering", "(II)I"⟩) ∈ lw_g := List.mem_filter.mpr ⟨List.mem_append_right _ (List.mem_of_getElem? (i := 1081) (by decide +kernel)), rfl⟩
theorem wd_1085 : (Cond.methodLink "CellMapperLaw" 91 ⟨"CellMapperModel", "clockRetimed", "(I)I"⟩) ∈ lw_g := List.mem_filter.mpr ⟨List.mem_append_right _ (List.mem_of_getElem? (i := 1085) (by decide +kernel)), rfl⟩
theorem wd_1089 : (Cond.methodLink "CellMapperModel" 309 ⟨"CellMapperModel", "worked", "(I)Z"⟩) ∈ lw_g := List.mem_filter.mpr ⟨List.mem_append_right _ (List.mem_of_getElem? (i := 1089) (by decide +kernel)), rfl⟩
theorem wd_1093 : (Cond.methodLink "CellMapperModel" 303 ⟨"CellMapperModel", "arrived", "(I)Z"⟩) ∈ lw_g := List.mem_filter.mpr ⟨List.mem_append_right _ (List.mem_of_getElem? (i := 1093) (by decide +kernel)), rfl⟩
theorem wd_1097 : (Cond.methodLink "CellMapperModel" 306 ⟨"CellMapperModel", "ending", "(I)I"⟩) ∈ lw_g := List.mem_filter.mpr ⟨List.mem_append_right _ (List.mem_of_getElem? (i := 1097) (by decide +kernel)), rfl⟩
theorem wd_1101 : (Cond.methodLink "CellMapperLaw" 95 ⟨"CellMapperModel", "reset", "()V"⟩) ∈ lw_g := List.mem_filter.mpr ⟨List.mem_append_right _ (List.mem_of_getElem? (i := 1101) (by decide +kernel)), rfl⟩
theorem wd_1120 : (Cond.fieldLink "CellMapper$Kind" 35 "CellMapper$Kind" "logic" "Z") ∈ lw_g := List.mem_filter.mpr ⟨List.mem_append_right _ (List.mem_of_getElem? (i := 1120) (by decide +kernel)), rfl⟩
theorem wd_1121 : (Cond.fieldLink "java/lang/Enum" 7 "java/lang/Enum" "ordinal" "I") ∈ lw_g := List.mem_filter.mpr ⟨List.mem_append_right _ (List.mem_of_getElem? (i := 1121) (by decide +kernel)), rfl⟩
