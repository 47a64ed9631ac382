/-! tables: kinds of cells, fields, methods, links (printed by gen/gen_tables.py) -/
def good (w : Cond) : Bool := (w.onTables && w.keeps) || (match w with | .arrayClass _ => true | _ => false)
def gws : List Cond := lw_tbl.filter good
abbrev Meth : Type := MethodName × ByteArray × Nat × Option FieldType
def cn : Nat → String
  | 1 => "CallGraphs"
  | 2 => "CallGraphs$Run"
  | 3 => "CallGraphs$Type"
  | 4 => "CallGraphs$Member"
  | 5 => "CallGraphs$New"
  | 6 => "CallGraphs$Call"
  | 7 => "CallGraphs$Up"
  | 8 => "CallGraphs$Static"
  | 9 => "CallGraphs$Put"
  | 10 => "CallGraphs$Out"
  | 11 => "CallGraphs$Any"
  | 12 => "CallGraphsModel"
  | 22 => "CallGraphs$Type"
  | 23 => "CallGraphs$Member"
  | 24 => "CallGraphs$Op"
  | 26 => "CallGraphs$Kind"
  | 27 => "CallGraphs$Sort"
  | 30 => "CallGraphs$Kind"
  | 31 => "CallGraphs$Sort"
  | _ => ""
def cFl : Nat → List (String × String × String × Bool)
  | 1 => [("CallGraphs", "types", "[LCallGraphs$Type;", true), ("CallGraphs", "typeCount", "I", false), ("CallGraphs", "members", "[LCallGraphs$Member;", true), ("CallGraphs", "memberCount", "I", false), ("CallGraphs", "opCount", "I", false), ("CallGraphs", "plains", "I", false), ("CallGraphs", "leastLeft", "LCallGraphs$Member;", false), ("CallGraphs", "isDrawn", "Z", false), ("CallGraphs", "isNew", "Z", false), ("CallGraphs", "made", "[Z", true), ("CallGraphs", "begun", "[Z", true), ("CallGraphs", "bags", "[[Z", true), ("CallGraphs", "leads", "[[Z", true), ("CallGraphs", "drawn", "LCallGraphs$Run;", true), ("CallGraphs", "far", "[I", true)]
  | 2 => [("CallGraphs$Run", "g", "LCallGraphs;", false), ("CallGraphs$Run", "x", "J", false), ("CallGraphs$Run", "pool", "[LCallGraphs$Type;", true), ("CallGraphs$Run", "pooled", "I", false), ("CallGraphs$Run", "begun", "[Z", true), ("CallGraphs$Run", "bags", "[LCallGraphs$Member;", true), ("CallGraphs$Run", "bagSizes", "[I", true), ("CallGraphs$Run", "ran", "[Z", true), ("CallGraphs$Run", "deep", "I", false), ("CallGraphs$Run", "steps", "I", false), ("CallGraphs$Run", "left", "I", false), ("CallGraphs$Run", "latest", "I", false), ("CallGraphs$Run", "holds", "Z", false)]
  | 3 => [("CallGraphs$Type", "number", "I", true), ("CallGraphs$Type", "kind", "LCallGraphs$Kind;", true), ("CallGraphs$Type", "above", "LCallGraphs$Type;", true), ("CallGraphs$Type", "faces", "[LCallGraphs$Type;", true), ("CallGraphs$Type", "faceCount", "I", false), ("CallGraphs$Type", "under", "[Z", true), ("CallGraphs$Type", "named", "[LCallGraphs$Member;", true), ("CallGraphs$Type", "start", "LCallGraphs$Member;", false)]
  | 4 => [("CallGraphs$Member", "number", "I", true), ("CallGraphs$Member", "type", "LCallGraphs$Type;", true), ("CallGraphs$Member", "name", "I", true), ("CallGraphs$Member", "sort", "LCallGraphs$Sort;", true), ("CallGraphs$Member", "ops", "[LCallGraphs$Op;", true), ("CallGraphs$Member", "opCount", "I", false), ("CallGraphs$Member", "isRoot", "Z", false), ("CallGraphs$Member", "isReached", "Z", false)]
  | 5 => [("CallGraphs$Op", "number", "I", true), ("CallGraphs$Op", "in", "LCallGraphs$Member;", true), ("CallGraphs$Op", "callees", "[Z", true), ("CallGraphs$Op", "faults", "[I", true), ("CallGraphs$New", "a", "LCallGraphs$Type;", true)]
  | 6 => [("CallGraphs$Op", "number", "I", true), ("CallGraphs$Op", "in", "LCallGraphs$Member;", true), ("CallGraphs$Op", "callees", "[Z", true), ("CallGraphs$Op", "faults", "[I", true), ("CallGraphs$Call", "a", "LCallGraphs$Type;", true), ("CallGraphs$Call", "name", "I", true)]
  | 7 => [("CallGraphs$Op", "number", "I", true), ("CallGraphs$Op", "in", "LCallGraphs$Member;", true), ("CallGraphs$Op", "callees", "[Z", true), ("CallGraphs$Op", "faults", "[I", true), ("CallGraphs$Up", "a", "LCallGraphs$Type;", true), ("CallGraphs$Up", "name", "I", true)]
  | 8 => [("CallGraphs$Op", "number", "I", true), ("CallGraphs$Op", "in", "LCallGraphs$Member;", true), ("CallGraphs$Op", "callees", "[Z", true), ("CallGraphs$Op", "faults", "[I", true), ("CallGraphs$Static", "a", "LCallGraphs$Type;", true), ("CallGraphs$Static", "name", "I", true)]
  | 9 => [("CallGraphs$Op", "number", "I", true), ("CallGraphs$Op", "in", "LCallGraphs$Member;", true), ("CallGraphs$Op", "callees", "[Z", true), ("CallGraphs$Op", "faults", "[I", true), ("CallGraphs$Put", "bag", "I", true), ("CallGraphs$Put", "m", "LCallGraphs$Member;", true)]
  | 10 => [("CallGraphs$Op", "number", "I", true), ("CallGraphs$Op", "in", "LCallGraphs$Member;", true), ("CallGraphs$Op", "callees", "[Z", true), ("CallGraphs$Op", "faults", "[I", true), ("CallGraphs$Out", "bag", "I", true)]
  | 11 => [("CallGraphs$Op", "number", "I", true), ("CallGraphs$Op", "in", "LCallGraphs$Member;", true), ("CallGraphs$Op", "callees", "[Z", true), ("CallGraphs$Op", "faults", "[I", true), ("CallGraphs$Any", "name", "I", true)]
  | 12 => [("CallGraphsModel", "types", "I", false), ("CallGraphsModel", "kindOf", "[I", true), ("CallGraphsModel", "superOf", "[I", true), ("CallGraphsModel", "faceMany", "[I", true), ("CallGraphsModel", "faceOf", "[I", true), ("CallGraphsModel", "members", "I", false), ("CallGraphsModel", "typeOf", "[I", true), ("CallGraphsModel", "nameOf", "[I", true), ("CallGraphsModel", "sortOf", "[I", true), ("CallGraphsModel", "isRoot", "[Z", true), ("CallGraphsModel", "opMany", "[I", true), ("CallGraphsModel", "opAt", "[I", true), ("CallGraphsModel", "ops", "I", false), ("CallGraphsModel", "opKind", "[I", true), ("CallGraphsModel", "opA", "[I", true), ("CallGraphsModel", "opB", "[I", true), ("CallGraphsModel", "isFresh", "Z", false), ("CallGraphsModel", "grew", "Z", false), ("CallGraphsModel", "reached", "[Z", true), ("CallGraphsModel", "madeAt", "[Z", true), ("CallGraphsModel", "begunAt", "[Z", true), ("CallGraphsModel", "inBag", "[Z", true), ("CallGraphsModel", "calls", "[Z", true), ("CallGraphsModel", "faultMany", "[I", true), ("CallGraphsModel", "above", "[Z", true), ("CallGraphsModel", "underAt", "[Z", true), ("CallGraphsModel", "isLaid", "Z", false), ("CallGraphsModel", "left", "[Z", true), ("CallGraphsModel", "aboveThen", "[Z", true), ("CallGraphsModel", "withIt", "[Z", true), ("CallGraphsModel", "comes", "[Z", true), ("CallGraphsModel", "directly", "[Z", true), ("CallGraphsModel", "far", "[I", true), ("CallGraphsModel", "todo", "[I", true), ("CallGraphsModel", "what1", "[I", true), ("CallGraphsModel", "what2", "[I", true), ("CallGraphsModel", "why", "[I", true), ("CallGraphsModel", "deep", "I", false), ("CallGraphsModel", "x", "J", false), ("CallGraphsModel", "steps", "I", false), ("CallGraphsModel", "running", "I", false), ("CallGraphsModel", "leftOut", "I", false), ("CallGraphsModel", "latest", "I", false), ("CallGraphsModel", "isRight", "Z", false), ("CallGraphsModel", "ran", "[Z", true), ("CallGraphsModel", "begunNow", "[Z", true), ("CallGraphsModel", "pool", "[I", true), ("CallGraphsModel", "pools", "I", false), ("CallGraphsModel", "bag", "[I", true), ("CallGraphsModel", "bagMany", "[I", true)]
  | _ => []
def cTl : Nat → List FieldType
  | 1 => [.array (.object "CallGraphs$Type"), .int, .array (.object "CallGraphs$Member"), .int, .int, .int, .object "CallGraphs$Member", .boolean, .boolean, .array .boolean, .array .boolean, .array (.array .boolean), .array (.array .boolean), .object "CallGraphs$Run", .array .int]
  | 2 => [.object "CallGraphs", .long, .array (.object "CallGraphs$Type"), .int, .array .boolean, .array (.object "CallGraphs$Member"), .array .int, .array .boolean, .int, .int, .int, .int, .boolean]
  | 3 => [.int, .object "CallGraphs$Kind", .object "CallGraphs$Type", .array (.object "CallGraphs$Type"), .int, .array .boolean, .array (.object "CallGraphs$Member"), .object "CallGraphs$Member"]
  | 4 => [.int, .object "CallGraphs$Type", .int, .object "CallGraphs$Sort", .array (.object "CallGraphs$Op"), .int, .boolean, .boolean]
  | 5 => [.int, .object "CallGraphs$Member", .array .boolean, .array .int, .object "CallGraphs$Type"]
  | 6 => [.int, .object "CallGraphs$Member", .array .boolean, .array .int, .object "CallGraphs$Type", .int]
  | 7 => [.int, .object "CallGraphs$Member", .array .boolean, .array .int, .object "CallGraphs$Type", .int]
  | 8 => [.int, .object "CallGraphs$Member", .array .boolean, .array .int, .object "CallGraphs$Type", .int]
  | 9 => [.int, .object "CallGraphs$Member", .array .boolean, .array .int, .int, .object "CallGraphs$Member"]
  | 10 => [.int, .object "CallGraphs$Member", .array .boolean, .array .int, .int]
  | 11 => [.int, .object "CallGraphs$Member", .array .boolean, .array .int, .int]
  | 12 => [.int, .array .int, .array .int, .array .int, .array .int, .int, .array .int, .array .int, .array .int, .array .boolean, .array .int, .array .int, .int, .array .int, .array .int, .array .int, .boolean, .boolean, .array .boolean, .array .boolean, .array .boolean, .array .boolean, .array .boolean, .array .int, .array .boolean, .array .boolean, .boolean, .array .boolean, .array .boolean, .array .boolean, .array .boolean, .array .boolean, .array .int, .array .int, .array .int, .array .int, .array .int, .int, .long, .int, .int, .int, .int, .boolean, .array .boolean, .array .boolean, .array .int, .int, .array .int, .array .int]
  | _ => []
def cF (kd : Nat) : u_T := fun k => (cFl kd).getD k ("", "", "", false)
def cT (kd k : Nat) : FieldType := (cTl kd).getD k .int
def cNf (kd : Nat) : Nat := (cFl kd).length
def eT : Nat → FieldType
  | 20 => .int
  | 21 => .boolean
  | 22 => .object "CallGraphs$Type"
  | 23 => .object "CallGraphs$Member"
  | 24 => .object "CallGraphs$Op"
  | 25 => .array .boolean
  | 26 => .object "CallGraphs$Kind"
  | 27 => .object "CallGraphs$Sort"
  | _ => .int
theorem iw_1 : ∀ w ∈ u_ws (cn 1) (cF 1) (cNf 1), w ∈ lw_tbl ∧ good w = true := by decide +kernel
theorem iw_2 : ∀ w ∈ u_ws (cn 2) (cF 2) (cNf 2), w ∈ lw_tbl ∧ good w = true := by decide +kernel
theorem iw_3 : ∀ w ∈ u_ws (cn 3) (cF 3) (cNf 3), w ∈ lw_tbl ∧ good w = true := by decide +kernel
theorem iw_4 : ∀ w ∈ u_ws (cn 4) (cF 4) (cNf 4), w ∈ lw_tbl ∧ good w = true := by decide +kernel
theorem iw_5 : ∀ w ∈ u_ws (cn 5) (cF 5) (cNf 5), w ∈ lw_tbl ∧ good w = true := by decide +kernel
theorem iw_6 : ∀ w ∈ u_ws (cn 6) (cF 6) (cNf 6), w ∈ lw_tbl ∧ good w = true := by decide +kernel
theorem iw_7 : ∀ w ∈ u_ws (cn 7) (cF 7) (cNf 7), w ∈ lw_tbl ∧ good w = true := by decide +kernel
theorem iw_8 : ∀ w ∈ u_ws (cn 8) (cF 8) (cNf 8), w ∈ lw_tbl ∧ good w = true := by decide +kernel
theorem iw_9 : ∀ w ∈ u_ws (cn 9) (cF 9) (cNf 9), w ∈ lw_tbl ∧ good w = true := by decide +kernel
theorem iw_10 : ∀ w ∈ u_ws (cn 10) (cF 10) (cNf 10), w ∈ lw_tbl ∧ good w = true := by decide +kernel
theorem iw_11 : ∀ w ∈ u_ws (cn 11) (cF 11) (cNf 11), w ∈ lw_tbl ∧ good w = true := by decide +kernel
theorem iw_12 : ∀ w ∈ u_ws (cn 12) (cF 12) (cNf 12), w ∈ lw_tbl ∧ good w = true := by decide +kernel
theorem gw_mem {w : Cond} (h : w ∈ lw_tbl ∧ good w = true) : w ∈ gws := List.mem_filter.mpr h
theorem gw_at (i : Nat) {w : Cond} (h : lw_tbl[i]? = some w) (hg : good w = true) : w ∈ gws := List.mem_filter.mpr ⟨List.mem_of_getElem? h, hg⟩
theorem sub0 {w : Cond} (h : w ∈ k2_sels lw_privs) : w ∈ lw_tbl := List.mem_append_left _ h
theorem sub1 {w : Cond} (h : w ∈ tables_1_1) : w ∈ lw_tbl := List.mem_append_right _ (List.mem_append_left _ h)
theorem sub2 {w : Cond} (h : w ∈ tables_1_2) : w ∈ lw_tbl := List.mem_append_right _ (List.mem_append_right _ (List.mem_append_left _ h))
theorem sub3 {w : Cond} (h : w ∈ tables_1_3) : w ∈ lw_tbl := List.mem_append_right _ (List.mem_append_right _ (List.mem_append_right _ (List.mem_append_left _ h)))
theorem sub4 {w : Cond} (h : w ∈ tables_1_4) : w ∈ lw_tbl := List.mem_append_right _ (List.mem_append_right _ (List.mem_append_right _ (List.mem_append_right _ (List.mem_append_left _ h))))
theorem sub5 {w : Cond} (h : w ∈ tables_1_5) : w ∈ lw_tbl := List.mem_append_right _ (List.mem_append_right _ (List.mem_append_right _ (List.mem_append_right _ (List.mem_append_right _ h))))
theorem lw0 (i : Nat) {w : Cond} (h : (k2_sels lw_privs)[i]? = some w) : w ∈ lw_tbl := sub0 (List.mem_of_getElem? h)
theorem gw0 (i : Nat) {w : Cond} (h : (k2_sels lw_privs)[i]? = some w ∧ good w = true) : w ∈ gws := List.mem_filter.mpr ⟨sub0 (List.mem_of_getElem? h.1), h.2⟩
theorem lw1 (i : Nat) {w : Cond} (h : (tables_1_1)[i]? = some w) : w ∈ lw_tbl := sub1 (List.mem_of_getElem? h)
theorem gw1 (i : Nat) {w : Cond} (h : (tables_1_1)[i]? = some w ∧ good w = true) : w ∈ gws := List.mem_filter.mpr ⟨sub1 (List.mem_of_getElem? h.1), h.2⟩
theorem lw2 (i : Nat) {w : Cond} (h : (tables_1_2)[i]? = some w) : w ∈ lw_tbl := sub2 (List.mem_of_getElem? h)
theorem gw2 (i : Nat) {w : Cond} (h : (tables_1_2)[i]? = some w ∧ good w = true) : w ∈ gws := List.mem_filter.mpr ⟨sub2 (List.mem_of_getElem? h.1), h.2⟩
theorem lw3 (i : Nat) {w : Cond} (h : (tables_1_3)[i]? = some w) : w ∈ lw_tbl := sub3 (List.mem_of_getElem? h)
theorem gw3 (i : Nat) {w : Cond} (h : (tables_1_3)[i]? = some w ∧ good w = true) : w ∈ gws := List.mem_filter.mpr ⟨sub3 (List.mem_of_getElem? h.1), h.2⟩
theorem lw4 (i : Nat) {w : Cond} (h : (tables_1_4)[i]? = some w) : w ∈ lw_tbl := sub4 (List.mem_of_getElem? h)
theorem gw4 (i : Nat) {w : Cond} (h : (tables_1_4)[i]? = some w ∧ good w = true) : w ∈ gws := List.mem_filter.mpr ⟨sub4 (List.mem_of_getElem? h.1), h.2⟩
theorem lw5 (i : Nat) {w : Cond} (h : (tables_1_5)[i]? = some w) : w ∈ lw_tbl := sub5 (List.mem_of_getElem? h)
theorem gw5 (i : Nat) {w : Cond} (h : (tables_1_5)[i]? = some w ∧ good w = true) : w ∈ gws := List.mem_filter.mpr ⟨sub5 (List.mem_of_getElem? h.1), h.2⟩
theorem iw_all {kd : Nat} (h1 : 1 ≤ kd) (h2 : kd ≤ 12) : ∀ w ∈ u_ws (cn kd) (cF kd) (cNf kd), w ∈ gws := by
  rcases (show kd = 1 ∨ kd = 2 ∨ kd = 3 ∨ kd = 4 ∨ kd = 5 ∨ kd = 6 ∨ kd = 7 ∨ kd = 8 ∨ kd = 9 ∨ kd = 10 ∨ kd = 11 ∨ kd = 12 by omega) with rfl | rfl | rfl | rfl | rfl | rfl | rfl | rfl | rfl | rfl | rfl | rfl
  · exact fun w h => gw_mem (iw_1 w h)
  · exact fun w h => gw_mem (iw_2 w h)
  · exact fun w h => gw_mem (iw_3 w h)
  · exact fun w h => gw_mem (iw_4 w h)
  · exact fun w h => gw_mem (iw_5 w h)
  · exact fun w h => gw_mem (iw_6 w h)
  · exact fun w h => gw_mem (iw_7 w h)
  · exact fun w h => gw_mem (iw_8 w h)
  · exact fun w h => gw_mem (iw_9 w h)
  · exact fun w h => gw_mem (iw_10 w h)
  · exact fun w h => gw_mem (iw_11 w h)
  · exact fun w h => gw_mem (iw_12 w h)
theorem nm_all {kd : Nat} (h1 : 1 ≤ kd) (h2 : kd ≤ 12) : ∀ a, a < cNf kd → ∀ b, b < cNf kd → a ≠ b → (cF kd a).2.1 ≠ (cF kd b).2.1 := by
  rcases (show kd = 1 ∨ kd = 2 ∨ kd = 3 ∨ kd = 4 ∨ kd = 5 ∨ kd = 6 ∨ kd = 7 ∨ kd = 8 ∨ kd = 9 ∨ kd = 10 ∨ kd = 11 ∨ kd = 12 by omega) with rfl | rfl | rfl | rfl | rfl | rfl | rfl | rfl | rfl | rfl | rfl | rfl <;> decide +kernel
theorem ty_all {kd : Nat} (h1 : 1 ≤ kd) (h2 : kd ≤ 12) : ∀ k, k < cNf kd → parseFieldDescriptor (cF kd k).2.2.1 = some (cT kd k) := by
  rcases (show kd = 1 ∨ kd = 2 ∨ kd = 3 ∨ kd = 4 ∨ kd = 5 ∨ kd = 6 ∨ kd = 7 ∨ kd = 8 ∨ kd = 9 ∨ kd = 10 ∨ kd = 11 ∨ kd = 12 by omega) with rfl | rfl | rfl | rfl | rfl | rfl | rfl | rfl | rfl | rfl | rfl | rfl <;> decide +kernel
theorem in_all {kd : Nat} (h1 : 1 ≤ kd) (h2 : kd ≤ 12) : Cond.instantiable (cn kd) (cNf kd) ∈ gws ∧ Cond.initialized (cn kd) ∈ gws := by
  rcases (show kd = 1 ∨ kd = 2 ∨ kd = 3 ∨ kd = 4 ∨ kd = 5 ∨ kd = 6 ∨ kd = 7 ∨ kd = 8 ∨ kd = 9 ∨ kd = 10 ∨ kd = 11 ∨ kd = 12 by omega) with rfl | rfl | rfl | rfl | rfl | rfl | rfl | rfl | rfl | rfl | rfl | rfl
  · exact ⟨gw1 19 ⟨rfl, rfl⟩, gw1 1 ⟨rfl, rfl⟩⟩
  · exact ⟨gw1 33 ⟨rfl, rfl⟩, gw1 2 ⟨rfl, rfl⟩⟩
  · exact ⟨gw1 175 ⟨rfl, rfl⟩, gw1 6 ⟨rfl, rfl⟩⟩
  · exact ⟨gw2 16 ⟨rfl, rfl⟩, gw1 7 ⟨rfl, rfl⟩⟩
  · exact ⟨gw2 106 ⟨rfl, rfl⟩, gw1 10 ⟨rfl, rfl⟩⟩
  · exact ⟨gw2 134 ⟨rfl, rfl⟩, gw1 11 ⟨rfl, rfl⟩⟩
  · exact ⟨gw2 151 ⟨rfl, rfl⟩, gw1 12 ⟨rfl, rfl⟩⟩
  · exact ⟨gw2 168 ⟨rfl, rfl⟩, gw1 13 ⟨rfl, rfl⟩⟩
  · exact ⟨gw2 185 ⟨rfl, rfl⟩, gw1 14 ⟨rfl, rfl⟩⟩
  · exact ⟨gw2 202 ⟨rfl, rfl⟩, gw1 15 ⟨rfl, rfl⟩⟩
  · exact ⟨gw2 216 ⟨rfl, rfl⟩, gw1 16 ⟨rfl, rfl⟩⟩
  · exact ⟨gw4 42 ⟨rfl, rfl⟩, gw1 3 ⟨rfl, rfl⟩⟩
def Y_Any_act : Meth := (⟨"CallGraphs$Any", "act", "(LCallGraphs;LCallGraphs$Run;)V"⟩, prog_2_method_4_code, 6, none)
def Y_Any_init : Meth := (⟨"CallGraphs$Any", "<init>", "(ILCallGraphs$Member;I)V"⟩, prog_2_method_1_code, 4, none)
def Y_Any_spread : Meth := (⟨"CallGraphs$Any", "spread", "(LCallGraphs;)V"⟩, prog_2_method_3_code, 3, none)
def Y_Any_tells : Meth := (⟨"CallGraphs$Any", "tells", "(LCallGraphs$Member;)Z"⟩, prog_2_method_2_code, 2, (some .boolean))
def Y_Arr_fillI : Meth := (⟨"java/util/Arrays", "fill", "([II)V"⟩, prog_19_method_103_code, 4, none)
def Y_Arr_fillZ : Meth := (⟨"java/util/Arrays", "fill", "([ZZ)V"⟩, prog_19_method_111_code, 4, none)
def Y_Call_act : Meth := (⟨"CallGraphs$Call", "act", "(LCallGraphs;LCallGraphs$Run;)V"⟩, prog_3_method_4_code, 5, none)
def Y_Call_init : Meth := (⟨"CallGraphs$Call", "<init>", "(ILCallGraphs$Member;LCallGraphs$Type;I)V"⟩, prog_3_method_1_code, 5, none)
def Y_Call_judge : Meth := (⟨"CallGraphs$Call", "judge", "(LCallGraphs;)V"⟩, prog_3_method_3_code, 6, none)
def Y_Call_spread : Meth := (⟨"CallGraphs$Call", "spread", "(LCallGraphs;)V"⟩, prog_3_method_2_code, 5, none)
def Y_G_about : Meth := (⟨"CallGraphs", "about", "(II)I"⟩, prog_1_method_28_code, 6, (some .int))
def Y_G_begin : Meth := (⟨"CallGraphs", "begin", "(LCallGraphs$Op;LCallGraphs$Type;)V"⟩, prog_1_method_8_code, 5, none)
def Y_G_callee : Meth := (⟨"CallGraphs", "callee", "(III)I"⟩, prog_1_method_31_code, 7, (some .int))
def Y_G_caller : Meth := (⟨"CallGraphs", "caller", "(II)I"⟩, prog_1_method_33_code, 5, (some .int))
def Y_G_calls : Meth := (⟨"CallGraphs", "calls", "(LCallGraphs$Member;I)Z"⟩, prog_1_method_12_code, 5, (some .boolean))
def Y_G_change : Meth := (⟨"CallGraphs", "change", "()V"⟩, prog_1_method_9_code, 1, none)
def Y_G_choose : Meth := (⟨"CallGraphs", "choose", "(LCallGraphs$Type;LCallGraphs$Member;)I"⟩, prog_1_method_7_code, 5, (some .int))
def Y_G_chosen : Meth := (⟨"CallGraphs", "chosen", "(III)I"⟩, prog_1_method_27_code, 4, (some .int))
def Y_G_close : Meth := (⟨"CallGraphs", "close", "()V"⟩, prog_1_method_11_code, 5, none)
def Y_G_count : Meth := (⟨"CallGraphs", "count", "(I)I"⟩, prog_1_method_23_code, 4, (some .int))
def Y_G_countOf : Meth := (⟨"CallGraphs", "countOf", "(LCallGraphs$Member;I)I"⟩, prog_1_method_24_code, 6, (some .int))
def Y_G_draw : Meth := (⟨"CallGraphs", "draw", "()V"⟩, prog_1_method_10_code, 5, none)
def Y_G_face : Meth := (⟨"CallGraphs", "face", "(II)I"⟩, prog_1_method_16_code, 6, (some .int))
def Y_G_faults : Meth := (⟨"CallGraphs", "faults", "(III)I"⟩, prog_1_method_32_code, 4, (some .int))
def Y_G_find : Meth := (⟨"CallGraphs", "find", "(LCallGraphs$Type;I)LCallGraphs$Member;"⟩, prog_1_method_6_code, 4, (some (.object "CallGraphs$Member")))
def Y_G_fits : Meth := (⟨"CallGraphs", "fits", "(LCallGraphs$Member;III)Z"⟩, prog_1_method_18_code, 5, (some .boolean))
def Y_G_found : Meth := (⟨"CallGraphs", "found", "(II)I"⟩, prog_1_method_26_code, 4, (some .int))
def Y_G_holds : Meth := (⟨"CallGraphs", "holds", "(J)Z"⟩, prog_1_method_37_code, 3, (some .boolean))
def Y_G_init : Meth := (⟨"CallGraphs", "<init>", "()V"⟩, prog_1_method_1_code, 1, none)
def Y_G_isLeft : Meth := (⟨"CallGraphs", "isLeft", "(LCallGraphs$Type;LCallGraphs$Type;I)Z"⟩, prog_1_method_5_code, 6, (some .boolean))
def Y_G_isMeant : Meth := (⟨"CallGraphs", "isMeant", "(LCallGraphs$Type;LCallGraphs$Type;I)Z"⟩, prog_1_method_4_code, 3, (some .boolean))
def Y_G_isMember : Meth := (⟨"CallGraphs", "isMember", "(I)Z"⟩, prog_1_method_14_code, 2, (some .boolean))
def Y_G_isOp : Meth := (⟨"CallGraphs", "isOp", "(II)Z"⟩, prog_1_method_30_code, 3, (some .boolean))
def Y_G_isType : Meth := (⟨"CallGraphs", "isType", "(I)Z"⟩, prog_1_method_13_code, 2, (some .boolean))
def Y_G_leave : Meth := (⟨"CallGraphs", "leave", "(LCallGraphs$Type;I)V"⟩, prog_1_method_3_code, 6, none)
def Y_G_made : Meth := (⟨"CallGraphs", "made", "(II)I"⟩, prog_1_method_29_code, 3, (some .int))
def Y_G_measure : Meth := (⟨"CallGraphs", "measure", "(I)V"⟩, prog_1_method_34_code, 6, none)
def Y_G_member : Meth := (⟨"CallGraphs", "member", "(III)I"⟩, prog_1_method_17_code, 6, (some .int))
def Y_G_mkop : Meth := (⟨"CallGraphs", "made", "(LCallGraphs$Member;III)LCallGraphs$Op;"⟩, prog_1_method_19_code, 6, (some (.object "CallGraphs$Op")))
def Y_G_op : Meth := (⟨"CallGraphs", "op", "(IIII)I"⟩, prog_1_method_20_code, 6, (some .int))
def Y_G_ring : Meth := (⟨"CallGraphs", "ring", "(I)I"⟩, prog_1_method_22_code, 4, (some .int))
def Y_G_root : Meth := (⟨"CallGraphs", "root", "(IZ)I"⟩, prog_1_method_21_code, 5, (some .int))
def Y_G_run : Meth := (⟨"CallGraphs", "run", "(JI)I"⟩, prog_1_method_36_code, 9, (some .int))
def Y_G_type : Meth := (⟨"CallGraphs", "type", "(II)I"⟩, prog_1_method_15_code, 3, (some .int))
def Y_G_under : Meth := (⟨"CallGraphs", "under", "(II)I"⟩, prog_1_method_25_code, 3, (some .int))
def Y_G_way : Meth := (⟨"CallGraphs", "way", "(II)I"⟩, prog_1_method_35_code, 6, (some .int))
def Y_G_within : Meth := (⟨"CallGraphs", "within", "(III)Z"⟩, prog_1_method_2_code, 3, (some .boolean))
def Y_Kind_values : Meth := (⟨"CallGraphs$Kind", "values", "()[LCallGraphs$Kind;"⟩, prog_4_method_1_code, 0, (some (.array (.object "CallGraphs$Kind"))))
def Y_Law_law : Meth := (⟨"CallGraphsLaw", "law", "([I)Z"⟩, code, 4, (some .boolean))
def Y_M_about : Meth := (⟨"CallGraphsModel", "about", "(II)I"⟩, prog_16_method_39_code, 6, (some .int))
def Y_M_beginBy : Meth := (⟨"CallGraphsModel", "beginBy", "(II)V"⟩, prog_16_method_28_code, 5, none)
def Y_M_beginNow : Meth := (⟨"CallGraphsModel", "beginNow", "(II)V"⟩, prog_16_method_50_code, 5, none)
def Y_M_call : Meth := (⟨"CallGraphsModel", "call", "(II)V"⟩, prog_16_method_26_code, 3, none)
def Y_M_callAll : Meth := (⟨"CallGraphsModel", "callAll", "(III)V"⟩, prog_16_method_29_code, 8, none)
def Y_M_callee : Meth := (⟨"CallGraphsModel", "callee", "(III)I"⟩, prog_16_method_42_code, 6, (some .int))
def Y_M_caller : Meth := (⟨"CallGraphsModel", "caller", "(II)I"⟩, prog_16_method_44_code, 4, (some .int))
def Y_M_callersOf : Meth := (⟨"CallGraphsModel", "callersOf", "(II)I"⟩, prog_16_method_38_code, 5, (some .int))
def Y_M_canBeCalled : Meth := (⟨"CallGraphsModel", "canBeCalled", "(I)Z"⟩, prog_16_method_11_code, 1, (some .boolean))
def Y_M_choose : Meth := (⟨"CallGraphsModel", "choose", "(II)I"⟩, prog_16_method_18_code, 6, (some .int))
def Y_M_chosen : Meth := (⟨"CallGraphsModel", "chosen", "(III)I"⟩, prog_16_method_22_code, 4, (some .int))
def Y_M_chosenOf : Meth := (⟨"CallGraphsModel", "chosenOf", "(III)I"⟩, prog_16_method_19_code, 5, (some .int))
def Y_M_count : Meth := (⟨"CallGraphsModel", "count", "(I)I"⟩, prog_16_method_37_code, 2, (some .int))
def Y_M_countIn : Meth := (⟨"CallGraphsModel", "countIn", "(I)I"⟩, prog_16_method_36_code, 4, (some .int))
def Y_M_doNext : Meth := (⟨"CallGraphsModel", "doNext", "()V"⟩, prog_16_method_54_code, 4, none)
def Y_M_draw : Meth := (⟨"CallGraphsModel", "draw", "(I)I"⟩, prog_16_method_47_code, 2, (some .int))
def Y_M_face : Meth := (⟨"CallGraphsModel", "face", "(II)I"⟩, prog_16_method_8_code, 4, (some .int))
def Y_M_fault : Meth := (⟨"CallGraphsModel", "fault", "(II)V"⟩, prog_16_method_27_code, 3, none)
def Y_M_faults : Meth := (⟨"CallGraphsModel", "faults", "(III)I"⟩, prog_16_method_43_code, 4, (some .int))
def Y_M_find : Meth := (⟨"CallGraphsModel", "find", "(II)I"⟩, prog_16_method_17_code, 8, (some .int))
def Y_M_findComes : Meth := (⟨"CallGraphsModel", "findComes", "()V"⟩, prog_16_method_33_code, 5, none)
def Y_M_findFar : Meth := (⟨"CallGraphsModel", "findFar", "(I)V"⟩, prog_16_method_45_code, 5, none)
def Y_M_findLeft : Meth := (⟨"CallGraphsModel", "findLeft", "(II)V"⟩, prog_16_method_16_code, 7, none)
def Y_M_findWith : Meth := (⟨"CallGraphsModel", "findWith", "(I)V"⟩, prog_16_method_24_code, 3, none)
def Y_M_follow : Meth := (⟨"CallGraphsModel", "follow", "(I)V"⟩, prog_16_method_30_code, 7, none)
def Y_M_found : Meth := (⟨"CallGraphsModel", "found", "(II)I"⟩, prog_16_method_21_code, 3, (some .int))
def Y_M_freshen : Meth := (⟨"CallGraphsModel", "freshen", "()V"⟩, prog_16_method_31_code, 3, none)
def Y_M_hasPlain : Meth := (⟨"CallGraphsModel", "hasPlain", "(I)Z"⟩, prog_16_method_23_code, 4, (some .boolean))
def Y_M_holds : Meth := (⟨"CallGraphsModel", "holds", "(J)Z"⟩, prog_16_method_57_code, 3, (some .boolean))
def Y_M_in : Meth := (⟨"CallGraphsModel", "in", "(III)Z"⟩, prog_16_method_2_code, 3, (some .boolean))
def Y_M_init : Meth := (⟨"CallGraphsModel", "<init>", "()V"⟩, prog_16_method_1_code, 1, none)
def Y_M_isCallee : Meth := (⟨"CallGraphsModel", "isCallee", "(II)Z"⟩, prog_16_method_32_code, 3, (some .boolean))
def Y_M_isMember : Meth := (⟨"CallGraphsModel", "isMember", "(I)Z"⟩, prog_16_method_4_code, 2, (some .boolean))
def Y_M_isNext : Meth := (⟨"CallGraphsModel", "isNext", "(II)Z"⟩, prog_16_method_12_code, 5, (some .boolean))
def Y_M_isOp : Meth := (⟨"CallGraphsModel", "isOp", "(II)Z"⟩, prog_16_method_41_code, 3, (some .boolean))
def Y_M_isRecursive : Meth := (⟨"CallGraphsModel", "isRecursive", "(I)Z"⟩, prog_16_method_34_code, 2, (some .boolean))
def Y_M_isRightOp : Meth := (⟨"CallGraphsModel", "isRightOp", "(IIII)Z"⟩, prog_16_method_13_code, 5, (some .boolean))
def Y_M_isRing : Meth := (⟨"CallGraphsModel", "isRing", "(II)Z"⟩, prog_16_method_35_code, 3, (some .boolean))
def Y_M_isType : Meth := (⟨"CallGraphsModel", "isType", "(I)Z"⟩, prog_16_method_3_code, 2, (some .boolean))
def Y_M_isUnder : Meth := (⟨"CallGraphsModel", "isUnder", "(II)Z"⟩, prog_16_method_6_code, 5, (some .boolean))
def Y_M_lookUp : Meth := (⟨"CallGraphsModel", "lookUp", "(I)V"⟩, prog_16_method_5_code, 4, none)
def Y_M_made : Meth := (⟨"CallGraphsModel", "made", "(II)I"⟩, prog_16_method_40_code, 3, (some .int))
def Y_M_member : Meth := (⟨"CallGraphsModel", "member", "(III)I"⟩, prog_16_method_10_code, 5, (some .int))
def Y_M_op : Meth := (⟨"CallGraphsModel", "op", "(IIII)I"⟩, prog_16_method_14_code, 5, (some .int))
def Y_M_ownOf : Meth := (⟨"CallGraphsModel", "ownOf", "(II)I"⟩, prog_16_method_9_code, 4, (some .int))
def Y_M_push : Meth := (⟨"CallGraphsModel", "push", "(III)V"⟩, prog_16_method_48_code, 4, none)
def Y_M_reach : Meth := (⟨"CallGraphsModel", "reach", "(I)V"⟩, prog_16_method_25_code, 2, none)
def Y_M_root : Meth := (⟨"CallGraphsModel", "root", "(IZ)I"⟩, prog_16_method_15_code, 4, (some .int))
def Y_M_run : Meth := (⟨"CallGraphsModel", "run", "(JI)I"⟩, prog_16_method_56_code, 7, (some .int))
def Y_M_runAll : Meth := (⟨"CallGraphsModel", "runAll", "(J)V"⟩, prog_16_method_55_code, 4, none)
def Y_M_runAny : Meth := (⟨"CallGraphsModel", "runAny", "(I)V"⟩, prog_16_method_52_code, 5, none)
def Y_M_runCall : Meth := (⟨"CallGraphsModel", "runCall", "(I)V"⟩, prog_16_method_51_code, 7, none)
def Y_M_runNow : Meth := (⟨"CallGraphsModel", "runNow", "(II)V"⟩, prog_16_method_49_code, 3, none)
def Y_M_runOp : Meth := (⟨"CallGraphsModel", "runOp", "(I)V"⟩, prog_16_method_53_code, 7, none)
def Y_M_type : Meth := (⟨"CallGraphsModel", "type", "(II)I"⟩, prog_16_method_7_code, 3, (some .int))
def Y_M_under : Meth := (⟨"CallGraphsModel", "under", "(II)I"⟩, prog_16_method_20_code, 3, (some .int))
def Y_M_way : Meth := (⟨"CallGraphsModel", "way", "(II)I"⟩, prog_16_method_46_code, 7, (some .int))
def Y_Member_init : Meth := (⟨"CallGraphs$Member", "<init>", "(ILCallGraphs$Type;ILCallGraphs$Sort;)V"⟩, prog_5_method_1_code, 5, none)
def Y_New_act : Meth := (⟨"CallGraphs$New", "act", "(LCallGraphs;LCallGraphs$Run;)V"⟩, prog_6_method_3_code, 3, none)
def Y_New_init : Meth := (⟨"CallGraphs$New", "<init>", "(ILCallGraphs$Member;LCallGraphs$Type;)V"⟩, prog_6_method_1_code, 4, none)
def Y_New_spread : Meth := (⟨"CallGraphs$New", "spread", "(LCallGraphs;)V"⟩, prog_6_method_2_code, 2, none)
def Y_Obj_init : Meth := (⟨"java/lang/Object", "<init>", "()V"⟩, object_method_1_code, 1, none)
def Y_Op_call : Meth := (⟨"CallGraphs$Op", "call", "(LCallGraphs;LCallGraphs$Member;)V"⟩, prog_7_method_6_code, 3, none)
def Y_Op_fault : Meth := (⟨"CallGraphs$Op", "fault", "(I)V"⟩, prog_7_method_7_code, 2, none)
def Y_Op_forget : Meth := (⟨"CallGraphs$Op", "forget", "()V"⟩, prog_7_method_2_code, 1, none)
def Y_Op_init : Meth := (⟨"CallGraphs$Op", "<init>", "(ILCallGraphs$Member;)V"⟩, prog_7_method_1_code, 3, none)
def Y_Op_judge : Meth := (⟨"CallGraphs$Op", "judge", "(LCallGraphs;)V"⟩, prog_7_method_4_code, 2, none)
def Y_Out_act : Meth := (⟨"CallGraphs$Out", "act", "(LCallGraphs;LCallGraphs$Run;)V"⟩, prog_8_method_3_code, 4, none)
def Y_Out_init : Meth := (⟨"CallGraphs$Out", "<init>", "(ILCallGraphs$Member;I)V"⟩, prog_8_method_1_code, 4, none)
def Y_Out_spread : Meth := (⟨"CallGraphs$Out", "spread", "(LCallGraphs;)V"⟩, prog_8_method_2_code, 3, none)
def Y_Put_act : Meth := (⟨"CallGraphs$Put", "act", "(LCallGraphs;LCallGraphs$Run;)V"⟩, prog_9_method_3_code, 3, none)
def Y_Put_init : Meth := (⟨"CallGraphs$Put", "<init>", "(ILCallGraphs$Member;ILCallGraphs$Member;)V"⟩, prog_9_method_1_code, 5, none)
def Y_Put_spread : Meth := (⟨"CallGraphs$Put", "spread", "(LCallGraphs;)V"⟩, prog_9_method_2_code, 2, none)
def Y_Run_begin : Meth := (⟨"CallGraphs$Run", "begin", "(LCallGraphs$Op;LCallGraphs$Type;)V"⟩, prog_10_method_7_code, 5, none)
def Y_Run_draw : Meth := (⟨"CallGraphs$Run", "draw", "(I)I"⟩, prog_10_method_3_code, 2, (some .int))
def Y_Run_drawT : Meth := (⟨"CallGraphs$Run", "draw", "(LCallGraphs$Type;)LCallGraphs$Type;"⟩, prog_10_method_4_code, 5, (some (.object "CallGraphs$Type")))
def Y_Run_init : Meth := (⟨"CallGraphs$Run", "<init>", "()V"⟩, prog_10_method_1_code, 1, none)
def Y_Run_make : Meth := (⟨"CallGraphs$Run", "make", "(LCallGraphs$Type;)V"⟩, prog_10_method_5_code, 2, none)
def Y_Run_play : Meth := (⟨"CallGraphs$Run", "play", "(LCallGraphs;J)V"⟩, prog_10_method_2_code, 5, none)
def Y_Run_put : Meth := (⟨"CallGraphs$Run", "put", "(ILCallGraphs$Member;)V"⟩, prog_10_method_6_code, 5, none)
def Y_Run_run : Meth := (⟨"CallGraphs$Run", "run", "(LCallGraphs$Op;LCallGraphs$Member;)V"⟩, prog_10_method_8_code, 4, none)
def Y_Sort_isNamed : Meth := (⟨"CallGraphs$Sort", "isNamed", "()Z"⟩, prog_11_method_5_code, 1, (some .boolean))
def Y_Sort_isOpen : Meth := (⟨"CallGraphs$Sort", "isOpen", "()Z"⟩, prog_11_method_4_code, 1, (some .boolean))
def Y_Sort_values : Meth := (⟨"CallGraphs$Sort", "values", "()[LCallGraphs$Sort;"⟩, prog_11_method_1_code, 0, (some (.array (.object "CallGraphs$Sort"))))
def Y_Static_act : Meth := (⟨"CallGraphs$Static", "act", "(LCallGraphs;LCallGraphs$Run;)V"⟩, prog_12_method_5_code, 4, none)
def Y_Static_init : Meth := (⟨"CallGraphs$Static", "<init>", "(ILCallGraphs$Member;LCallGraphs$Type;I)V"⟩, prog_12_method_1_code, 5, none)
def Y_Static_judge : Meth := (⟨"CallGraphs$Static", "judge", "(LCallGraphs;)V"⟩, prog_12_method_4_code, 2, none)
def Y_Static_spread : Meth := (⟨"CallGraphs$Static", "spread", "(LCallGraphs;)V"⟩, prog_12_method_3_code, 3, none)
def Y_Static_told : Meth := (⟨"CallGraphs$Static", "told", "(LCallGraphs;)LCallGraphs$Member;"⟩, prog_12_method_2_code, 3, (some (.object "CallGraphs$Member")))
def Y_Type_hasFace : Meth := (⟨"CallGraphs$Type", "hasFace", "(LCallGraphs$Type;)Z"⟩, prog_13_method_4_code, 4, (some .boolean))
def Y_Type_hasPlain : Meth := (⟨"CallGraphs$Type", "hasPlain", "()Z"⟩, prog_13_method_6_code, 6, (some .boolean))
def Y_Type_init : Meth := (⟨"CallGraphs$Type", "<init>", "(ILCallGraphs$Kind;LCallGraphs$Type;)V"⟩, prog_13_method_1_code, 4, none)
def Y_Type_isClass : Meth := (⟨"CallGraphs$Type", "isClass", "()Z"⟩, prog_13_method_3_code, 1, (some .boolean))
def Y_Type_isUnder : Meth := (⟨"CallGraphs$Type", "isUnder", "(LCallGraphs$Type;)Z"⟩, prog_13_method_5_code, 2, (some .boolean))
def Y_Type_join : Meth := (⟨"CallGraphs$Type", "join", "(LCallGraphs$Type;)V"⟩, prog_13_method_2_code, 3, none)
def Y_Up_act : Meth := (⟨"CallGraphs$Up", "act", "(LCallGraphs;LCallGraphs$Run;)V"⟩, prog_14_method_4_code, 4, none)
def Y_Up_init : Meth := (⟨"CallGraphs$Up", "<init>", "(ILCallGraphs$Member;LCallGraphs$Type;I)V"⟩, prog_14_method_1_code, 5, none)
def Y_Up_judge : Meth := (⟨"CallGraphs$Up", "judge", "(LCallGraphs;)V"⟩, prog_14_method_3_code, 3, none)
def Y_Up_spread : Meth := (⟨"CallGraphs$Up", "spread", "(LCallGraphs;)V"⟩, prog_14_method_2_code, 3, none)
/-- a field link of class own: the field k of the kinds S -/
def FLk (own : String) (idx k : Nat) (S : Nat → Bool) (ty : FieldType) (fin : Bool) : Prop := ∀ kd, S kd = true → (1 ≤ kd ∧ kd ≤ 12) ∧ k < cNf kd ∧ Cond.fieldLink own idx (cF kd k).1 (cF kd k).2.1 (cF kd k).2.2.1 ∈ gws ∧ cT kd k = ty ∧ (cF kd k).2.2.2 = fin
def FNk (own : String) (idx k : Nat) (S : Nat → Bool) (ty : FieldType) (fin : Bool) : Prop := ∀ kd, S kd = true → (1 ≤ kd ∧ kd ≤ 12) ∧ k < cNf kd ∧ Cond.fieldLinkNest own idx (cF kd k).1 (cF kd k).2.1 (cF kd k).2.2.1 "CallGraphs" ∈ lw_tbl ∧ cT kd k = ty ∧ (cF kd k).2.2.2 = fin
theorem FLk.of1 {own : String} {idx k kd : Nat} {ty : FieldType} {fin : Bool} (h1 : 1 ≤ kd ∧ kd ≤ 12 ∧ k < cNf kd ∧ cT kd k = ty ∧ (cF kd k).2.2.2 = fin) (h : Cond.fieldLink own idx (cF kd k).1 (cF kd k).2.1 (cF kd k).2.2.1 ∈ gws) : FLk own idx k (· == kd) ty fin := by
  intro q hq
  have e : q = kd := by simpa using hq
  subst e
  exact ⟨⟨h1.1, h1.2.1⟩, h1.2.2.1, h, h1.2.2.2.1, h1.2.2.2.2⟩
theorem FNk.of1 {own : String} {idx k kd : Nat} {ty : FieldType} {fin : Bool} (h1 : 1 ≤ kd ∧ kd ≤ 12 ∧ k < cNf kd ∧ cT kd k = ty ∧ (cF kd k).2.2.2 = fin) (h : Cond.fieldLinkNest own idx (cF kd k).1 (cF kd k).2.1 (cF kd k).2.2.1 "CallGraphs" ∈ lw_tbl) : FNk own idx k (· == kd) ty fin := by
  intro q hq
  have e : q = kd := by simpa using hq
  subst e
  exact ⟨⟨h1.1, h1.2.1⟩, h1.2.2.1, h, h1.2.2.2.1, h1.2.2.2.2⟩
def opk (kd : Nat) : Bool := 5 ≤ kd && kd ≤ 11
theorem opk_cases {q : Nat} (h : opk q = true) : q = 5 ∨ q = 6 ∨ q = 7 ∨ q = 8 ∨ q = 9 ∨ q = 10 ∨ q = 11 := by
  simp only [opk, Bool.and_eq_true, decide_eq_true_eq] at h; omega
theorem fl_Run_34 : FLk "CallGraphs$Run" 34 0 (· == 2) (.object "CallGraphs") false := FLk.of1 (by decide +kernel) (gw1 40 ⟨rfl, rfl⟩)
theorem fl_Run_38 : FLk "CallGraphs$Run" 38 1 (· == 2) (.long) false := FLk.of1 (by decide +kernel) (gw1 41 ⟨rfl, rfl⟩)
theorem fl_Run_11 : FLk "CallGraphs$Run" 11 2 (· == 2) (.array (.object "CallGraphs$Type")) true := FLk.of1 (by decide +kernel) (gw1 42 ⟨rfl, rfl⟩)
theorem fl_Run_42 : FLk "CallGraphs$Run" 42 3 (· == 2) (.int) false := FLk.of1 (by decide +kernel) (gw1 43 ⟨rfl, rfl⟩)
theorem fl_G_307 : FNk "CallGraphs" 307 3 (· == 2) (.int) false := FNk.of1 (by decide +kernel) (lw1 44 rfl)
theorem fl_Run_17 : FLk "CallGraphs$Run" 17 4 (· == 2) (.array .boolean) true := FLk.of1 (by decide +kernel) (gw1 45 ⟨rfl, rfl⟩)
theorem fl_G_310 : FNk "CallGraphs" 310 4 (· == 2) (.array .boolean) true := FNk.of1 (by decide +kernel) (lw1 46 rfl)
theorem fl_Run_23 : FLk "CallGraphs$Run" 23 5 (· == 2) (.array (.object "CallGraphs$Member")) true := FLk.of1 (by decide +kernel) (gw1 47 ⟨rfl, rfl⟩)
theorem fl_Out_36 : FNk "CallGraphs$Out" 36 5 (· == 2) (.array (.object "CallGraphs$Member")) true := FNk.of1 (by decide +kernel) (lw1 48 rfl)
theorem fl_Run_27 : FLk "CallGraphs$Run" 27 6 (· == 2) (.array .int) true := FLk.of1 (by decide +kernel) (gw1 49 ⟨rfl, rfl⟩)
theorem fl_Out_30 : FNk "CallGraphs$Out" 30 6 (· == 2) (.array .int) true := FNk.of1 (by decide +kernel) (lw1 50 rfl)
theorem fl_Run_31 : FLk "CallGraphs$Run" 31 7 (· == 2) (.array .boolean) true := FLk.of1 (by decide +kernel) (gw1 51 ⟨rfl, rfl⟩)
theorem fl_G_304 : FNk "CallGraphs" 304 7 (· == 2) (.array .boolean) true := FNk.of1 (by decide +kernel) (lw1 52 rfl)
theorem fl_Run_55 : FLk "CallGraphs$Run" 55 8 (· == 2) (.int) false := FLk.of1 (by decide +kernel) (gw1 53 ⟨rfl, rfl⟩)
theorem fl_Run_58 : FLk "CallGraphs$Run" 58 9 (· == 2) (.int) false := FLk.of1 (by decide +kernel) (gw1 54 ⟨rfl, rfl⟩)
theorem fl_G_301 : FNk "CallGraphs" 301 9 (· == 2) (.int) false := FNk.of1 (by decide +kernel) (lw1 55 rfl)
theorem fl_Run_61 : FLk "CallGraphs$Run" 61 10 (· == 2) (.int) false := FLk.of1 (by decide +kernel) (gw1 56 ⟨rfl, rfl⟩)
theorem fl_G_311 : FNk "CallGraphs" 311 10 (· == 2) (.int) false := FNk.of1 (by decide +kernel) (lw1 57 rfl)
theorem fl_Run_64 : FLk "CallGraphs$Run" 64 11 (· == 2) (.int) false := FLk.of1 (by decide +kernel) (gw1 58 ⟨rfl, rfl⟩)
theorem fl_G_314 : FNk "CallGraphs" 314 11 (· == 2) (.int) false := FNk.of1 (by decide +kernel) (lw1 59 rfl)
theorem fl_Run_67 : FLk "CallGraphs$Run" 67 12 (· == 2) (.boolean) false := FLk.of1 (by decide +kernel) (gw1 60 ⟨rfl, rfl⟩)
theorem fl_G_317 : FNk "CallGraphs" 317 12 (· == 2) (.boolean) false := FNk.of1 (by decide +kernel) (lw1 61 rfl)
theorem fl_G_11 : FLk "CallGraphs" 11 0 (· == 1) (.array (.object "CallGraphs$Type")) true := FLk.of1 (by decide +kernel) (gw1 91 ⟨rfl, rfl⟩)
theorem fl_Call_30 : FNk "CallGraphs$Call" 30 0 (· == 1) (.array (.object "CallGraphs$Type")) true := FNk.of1 (by decide +kernel) (lw1 92 rfl)
theorem fl_Run_118 : FNk "CallGraphs$Run" 118 0 (· == 1) (.array (.object "CallGraphs$Type")) true := FNk.of1 (by decide +kernel) (lw1 93 rfl)
theorem fl_Call_23 : FNk "CallGraphs$Call" 23 1 (· == 1) (.int) false := FNk.of1 (by decide +kernel) (lw1 94 rfl)
theorem fl_G_55 : FLk "CallGraphs" 55 1 (· == 1) (.int) false := FLk.of1 (by decide +kernel) (gw1 95 ⟨rfl, rfl⟩)
theorem fl_Run_115 : FNk "CallGraphs$Run" 115 1 (· == 1) (.int) false := FNk.of1 (by decide +kernel) (lw1 96 rfl)
theorem fl_G_17 : FLk "CallGraphs" 17 2 (· == 1) (.array (.object "CallGraphs$Member")) true := FLk.of1 (by decide +kernel) (gw1 97 ⟨rfl, rfl⟩)
theorem fl_Out_22 : FNk "CallGraphs$Out" 22 2 (· == 1) (.array (.object "CallGraphs$Member")) true := FNk.of1 (by decide +kernel) (lw1 98 rfl)
theorem fl_Up_27 : FNk "CallGraphs$Up" 27 2 (· == 1) (.array (.object "CallGraphs$Member")) true := FNk.of1 (by decide +kernel) (lw1 99 rfl)
theorem fl_Call_44 : FNk "CallGraphs$Call" 44 2 (· == 1) (.array (.object "CallGraphs$Member")) true := FNk.of1 (by decide +kernel) (lw1 100 rfl)
theorem fl_Run_74 : FNk "CallGraphs$Run" 74 2 (· == 1) (.array (.object "CallGraphs$Member")) true := FNk.of1 (by decide +kernel) (lw1 101 rfl)
theorem fl_Any_31 : FNk "CallGraphs$Any" 31 2 (· == 1) (.array (.object "CallGraphs$Member")) true := FNk.of1 (by decide +kernel) (lw1 102 rfl)
theorem fl_Out_15 : FNk "CallGraphs$Out" 15 3 (· == 1) (.int) false := FNk.of1 (by decide +kernel) (lw1 103 rfl)
theorem fl_Run_71 : FNk "CallGraphs$Run" 71 3 (· == 1) (.int) false := FNk.of1 (by decide +kernel) (lw1 104 rfl)
theorem fl_Any_26 : FNk "CallGraphs$Any" 26 3 (· == 1) (.int) false := FNk.of1 (by decide +kernel) (lw1 105 rfl)
theorem fl_G_133 : FLk "CallGraphs" 133 3 (· == 1) (.int) false := FLk.of1 (by decide +kernel) (gw1 106 ⟨rfl, rfl⟩)
theorem fl_G_256 : FLk "CallGraphs" 256 4 (· == 1) (.int) false := FLk.of1 (by decide +kernel) (gw1 107 ⟨rfl, rfl⟩)
theorem fl_G_47 : FLk "CallGraphs" 47 5 (· == 1) (.int) false := FLk.of1 (by decide +kernel) (gw1 108 ⟨rfl, rfl⟩)
theorem fl_G_51 : FLk "CallGraphs" 51 6 (· == 1) (.object "CallGraphs$Member") false := FLk.of1 (by decide +kernel) (gw1 109 ⟨rfl, rfl⟩)
theorem fl_G_124 : FLk "CallGraphs" 124 7 (· == 1) (.boolean) false := FLk.of1 (by decide +kernel) (gw1 110 ⟨rfl, rfl⟩)
theorem fl_New_25 : FNk "CallGraphs$New" 25 8 (· == 1) (.boolean) false := FNk.of1 (by decide +kernel) (lw1 111 rfl)
theorem fl_Put_28 : FNk "CallGraphs$Put" 28 8 (· == 1) (.boolean) false := FNk.of1 (by decide +kernel) (lw1 112 rfl)
theorem fl_Op_43 : FNk "CallGraphs$Op" 43 8 (· == 1) (.boolean) false := FNk.of1 (by decide +kernel) (lw1 113 rfl)
theorem fl_G_111 : FLk "CallGraphs" 111 8 (· == 1) (.boolean) false := FLk.of1 (by decide +kernel) (gw1 114 ⟨rfl, rfl⟩)
theorem fl_G_21 : FLk "CallGraphs" 21 9 (· == 1) (.array .boolean) true := FLk.of1 (by decide +kernel) (gw1 115 ⟨rfl, rfl⟩)
theorem fl_New_13 : FNk "CallGraphs$New" 13 9 (· == 1) (.array .boolean) true := FNk.of1 (by decide +kernel) (lw1 116 rfl)
theorem fl_Call_26 : FNk "CallGraphs$Call" 26 9 (· == 1) (.array .boolean) true := FNk.of1 (by decide +kernel) (lw1 117 rfl)
theorem fl_Run_96 : FNk "CallGraphs$Run" 96 9 (· == 1) (.array .boolean) true := FNk.of1 (by decide +kernel) (lw1 118 rfl)
theorem fl_G_25 : FLk "CallGraphs" 25 10 (· == 1) (.array .boolean) true := FLk.of1 (by decide +kernel) (gw1 119 ⟨rfl, rfl⟩)
theorem fl_Run_102 : FNk "CallGraphs$Run" 102 10 (· == 1) (.array .boolean) true := FNk.of1 (by decide +kernel) (lw1 120 rfl)
theorem fl_G_30 : FLk "CallGraphs" 30 11 (· == 1) (.array (.array .boolean)) true := FLk.of1 (by decide +kernel) (gw1 121 ⟨rfl, rfl⟩)
theorem fl_Put_17 : FNk "CallGraphs$Put" 17 11 (· == 1) (.array (.array .boolean)) true := FNk.of1 (by decide +kernel) (lw1 122 rfl)
theorem fl_Out_18 : FNk "CallGraphs$Out" 18 11 (· == 1) (.array (.array .boolean)) true := FNk.of1 (by decide +kernel) (lw1 123 rfl)
theorem fl_G_33 : FLk "CallGraphs" 33 12 (· == 1) (.array (.array .boolean)) true := FLk.of1 (by decide +kernel) (gw1 124 ⟨rfl, rfl⟩)
theorem fl_G_39 : FLk "CallGraphs" 39 13 (· == 1) (.object "CallGraphs$Run") true := FLk.of1 (by decide +kernel) (gw1 125 ⟨rfl, rfl⟩)
theorem fl_G_43 : FLk "CallGraphs" 43 14 (· == 1) (.array .int) true := FLk.of1 (by decide +kernel) (gw1 126 ⟨rfl, rfl⟩)
theorem fl_Type_25 : FLk "CallGraphs$Type" 25 0 (· == 3) (.int) true := FLk.of1 (by decide +kernel) (gw1 199 ⟨rfl, rfl⟩)
theorem fl_New_19 : FNk "CallGraphs$New" 19 0 (· == 3) (.int) true := FNk.of1 (by decide +kernel) (lw1 200 rfl)
theorem fl_Run_99 : FNk "CallGraphs$Run" 99 0 (· == 3) (.int) true := FNk.of1 (by decide +kernel) (lw1 201 rfl)
theorem fl_Type_29 : FLk "CallGraphs$Type" 29 1 (· == 3) (.object "CallGraphs$Kind") true := FLk.of1 (by decide +kernel) (gw1 202 ⟨rfl, rfl⟩)
theorem fl_G_198 : FNk "CallGraphs" 198 1 (· == 3) (.object "CallGraphs$Kind") true := FNk.of1 (by decide +kernel) (lw1 203 rfl)
theorem fl_Type_33 : FLk "CallGraphs$Type" 33 2 (· == 3) (.object "CallGraphs$Type") true := FLk.of1 (by decide +kernel) (gw1 204 ⟨rfl, rfl⟩)
theorem fl_G_91 : FNk "CallGraphs" 91 2 (· == 3) (.object "CallGraphs$Type") true := FNk.of1 (by decide +kernel) (lw1 205 rfl)
theorem fl_Run_107 : FNk "CallGraphs$Run" 107 2 (· == 3) (.object "CallGraphs$Type") true := FNk.of1 (by decide +kernel) (lw1 206 rfl)
theorem fl_Type_11 : FLk "CallGraphs$Type" 11 3 (· == 3) (.array (.object "CallGraphs$Type")) true := FLk.of1 (by decide +kernel) (gw1 207 ⟨rfl, rfl⟩)
theorem fl_G_191 : FNk "CallGraphs" 191 3 (· == 3) (.array (.object "CallGraphs$Type")) true := FNk.of1 (by decide +kernel) (lw1 208 rfl)
theorem fl_Type_46 : FLk "CallGraphs$Type" 46 4 (· == 3) (.int) false := FLk.of1 (by decide +kernel) (gw1 209 ⟨rfl, rfl⟩)
theorem fl_G_188 : FNk "CallGraphs" 188 4 (· == 3) (.int) false := FNk.of1 (by decide +kernel) (lw1 210 rfl)
theorem fl_Type_15 : FLk "CallGraphs$Type" 15 5 (· == 3) (.array .boolean) true := FLk.of1 (by decide +kernel) (gw1 211 ⟨rfl, rfl⟩)
theorem fl_Type_21 : FLk "CallGraphs$Type" 21 6 (· == 3) (.array (.object "CallGraphs$Member")) true := FLk.of1 (by decide +kernel) (gw1 212 ⟨rfl, rfl⟩)
theorem fl_G_58 : FNk "CallGraphs" 58 6 (· == 3) (.array (.object "CallGraphs$Member")) true := FNk.of1 (by decide +kernel) (lw1 213 rfl)
theorem fl_Run_124 : FNk "CallGraphs$Run" 124 7 (· == 3) (.object "CallGraphs$Member") false := FNk.of1 (by decide +kernel) (lw1 214 rfl)
theorem fl_G_115 : FNk "CallGraphs" 115 7 (· == 3) (.object "CallGraphs$Member") false := FNk.of1 (by decide +kernel) (lw1 215 rfl)
theorem fl_Member_17 : FLk "CallGraphs$Member" 17 0 (· == 4) (.int) true := FLk.of1 (by decide +kernel) (gw2 34 ⟨rfl, rfl⟩)
theorem fl_Put_23 : FNk "CallGraphs$Put" 23 0 (· == 4) (.int) true := FNk.of1 (by decide +kernel) (lw2 35 rfl)
theorem fl_G_65 : FNk "CallGraphs" 65 0 (· == 4) (.int) true := FNk.of1 (by decide +kernel) (lw2 36 rfl)
theorem fl_Op_36 : FNk "CallGraphs$Op" 36 0 (· == 4) (.int) true := FNk.of1 (by decide +kernel) (lw2 37 rfl)
theorem fl_Run_136 : FNk "CallGraphs$Run" 136 0 (· == 4) (.int) true := FNk.of1 (by decide +kernel) (lw2 38 rfl)
theorem fl_Member_21 : FLk "CallGraphs$Member" 21 1 (· == 4) (.object "CallGraphs$Type") true := FLk.of1 (by decide +kernel) (gw2 39 ⟨rfl, rfl⟩)
theorem fl_Static_42 : FNk "CallGraphs$Static" 42 1 (· == 4) (.object "CallGraphs$Type") true := FNk.of1 (by decide +kernel) (lw2 40 rfl)
theorem fl_G_211 : FNk "CallGraphs" 211 1 (· == 4) (.object "CallGraphs$Type") true := FNk.of1 (by decide +kernel) (lw2 41 rfl)
theorem fl_Member_25 : FLk "CallGraphs$Member" 25 2 (· == 4) (.int) true := FLk.of1 (by decide +kernel) (gw2 42 ⟨rfl, rfl⟩)
theorem fl_Any_13 : FNk "CallGraphs$Any" 13 2 (· == 4) (.int) true := FNk.of1 (by decide +kernel) (lw2 43 rfl)
theorem fl_G_105 : FNk "CallGraphs" 105 2 (· == 4) (.int) true := FNk.of1 (by decide +kernel) (lw2 44 rfl)
theorem fl_Member_28 : FLk "CallGraphs$Member" 28 3 (· == 4) (.object "CallGraphs$Sort") true := FLk.of1 (by decide +kernel) (gw2 45 ⟨rfl, rfl⟩)
theorem fl_Any_16 : FNk "CallGraphs$Any" 16 3 (· == 4) (.object "CallGraphs$Sort") true := FNk.of1 (by decide +kernel) (lw2 46 rfl)
theorem fl_Static_23 : FNk "CallGraphs$Static" 23 3 (· == 4) (.object "CallGraphs$Sort") true := FNk.of1 (by decide +kernel) (lw2 47 rfl)
theorem fl_G_68 : FNk "CallGraphs" 68 3 (· == 4) (.object "CallGraphs$Sort") true := FNk.of1 (by decide +kernel) (lw2 48 rfl)
theorem fl_Type_49 : FNk "CallGraphs$Type" 49 3 (· == 4) (.object "CallGraphs$Sort") true := FNk.of1 (by decide +kernel) (lw2 49 rfl)
theorem fl_Member_11 : FLk "CallGraphs$Member" 11 4 (· == 4) (.array (.object "CallGraphs$Op")) true := FLk.of1 (by decide +kernel) (gw2 50 ⟨rfl, rfl⟩)
theorem fl_Run_140 : FNk "CallGraphs$Run" 140 4 (· == 4) (.array (.object "CallGraphs$Op")) true := FNk.of1 (by decide +kernel) (lw2 51 rfl)
theorem fl_G_145 : FNk "CallGraphs" 145 4 (· == 4) (.array (.object "CallGraphs$Op")) true := FNk.of1 (by decide +kernel) (lw2 52 rfl)
theorem fl_Run_137 : FNk "CallGraphs$Run" 137 5 (· == 4) (.int) false := FNk.of1 (by decide +kernel) (lw2 53 rfl)
theorem fl_G_142 : FNk "CallGraphs" 142 5 (· == 4) (.int) false := FNk.of1 (by decide +kernel) (lw2 54 rfl)
theorem fl_Run_77 : FNk "CallGraphs$Run" 77 6 (· == 4) (.boolean) false := FNk.of1 (by decide +kernel) (lw2 55 rfl)
theorem fl_G_136 : FNk "CallGraphs" 136 6 (· == 4) (.boolean) false := FNk.of1 (by decide +kernel) (lw2 56 rfl)
theorem fl_Op_39 : FNk "CallGraphs$Op" 39 7 (· == 4) (.boolean) false := FNk.of1 (by decide +kernel) (lw2 57 rfl)
theorem fl_Run_128 : FNk "CallGraphs$Run" 128 7 (· == 4) (.boolean) false := FNk.of1 (by decide +kernel) (lw2 58 rfl)
theorem fl_G_139 : FNk "CallGraphs" 139 7 (· == 4) (.boolean) false := FNk.of1 (by decide +kernel) (lw2 59 rfl)
theorem fl_New_7 : FLk "CallGraphs$New" 7 4 (· == 5) (.object "CallGraphs$Type") true := FLk.of1 (by decide +kernel) (gw2 114 ⟨rfl, rfl⟩)
theorem fl_Op_19 : FLk "CallGraphs$Op" 19 0 opk (.int) true := by
  intro q hq
  rcases opk_cases hq with rfl | rfl | rfl | rfl | rfl | rfl | rfl
  · exact FLk.of1 (kd := 5) (by decide +kernel) (gw2 115 ⟨rfl, rfl⟩) 5 rfl
  · exact FLk.of1 (kd := 6) (by decide +kernel) (gw2 115 ⟨rfl, rfl⟩) 6 rfl
  · exact FLk.of1 (kd := 7) (by decide +kernel) (gw2 115 ⟨rfl, rfl⟩) 7 rfl
  · exact FLk.of1 (kd := 8) (by decide +kernel) (gw2 115 ⟨rfl, rfl⟩) 8 rfl
  · exact FLk.of1 (kd := 9) (by decide +kernel) (gw2 115 ⟨rfl, rfl⟩) 9 rfl
  · exact FLk.of1 (kd := 10) (by decide +kernel) (gw2 115 ⟨rfl, rfl⟩) 10 rfl
  · exact FLk.of1 (kd := 11) (by decide +kernel) (gw2 115 ⟨rfl, rfl⟩) 11 rfl
theorem fl_Op_23 : FLk "CallGraphs$Op" 23 1 opk (.object "CallGraphs$Member") true := by
  intro q hq
  rcases opk_cases hq with rfl | rfl | rfl | rfl | rfl | rfl | rfl
  · exact FLk.of1 (kd := 5) (by decide +kernel) (gw2 116 ⟨rfl, rfl⟩) 5 rfl
  · exact FLk.of1 (kd := 6) (by decide +kernel) (gw2 116 ⟨rfl, rfl⟩) 6 rfl
  · exact FLk.of1 (kd := 7) (by decide +kernel) (gw2 116 ⟨rfl, rfl⟩) 7 rfl
  · exact FLk.of1 (kd := 8) (by decide +kernel) (gw2 116 ⟨rfl, rfl⟩) 8 rfl
  · exact FLk.of1 (kd := 9) (by decide +kernel) (gw2 116 ⟨rfl, rfl⟩) 9 rfl
  · exact FLk.of1 (kd := 10) (by decide +kernel) (gw2 116 ⟨rfl, rfl⟩) 10 rfl
  · exact FLk.of1 (kd := 11) (by decide +kernel) (gw2 116 ⟨rfl, rfl⟩) 11 rfl
theorem fl_Op_9 : FLk "CallGraphs$Op" 9 2 opk (.array .boolean) true := by
  intro q hq
  rcases opk_cases hq with rfl | rfl | rfl | rfl | rfl | rfl | rfl
  · exact FLk.of1 (kd := 5) (by decide +kernel) (gw2 117 ⟨rfl, rfl⟩) 5 rfl
  · exact FLk.of1 (kd := 6) (by decide +kernel) (gw2 117 ⟨rfl, rfl⟩) 6 rfl
  · exact FLk.of1 (kd := 7) (by decide +kernel) (gw2 117 ⟨rfl, rfl⟩) 7 rfl
  · exact FLk.of1 (kd := 8) (by decide +kernel) (gw2 117 ⟨rfl, rfl⟩) 8 rfl
  · exact FLk.of1 (kd := 9) (by decide +kernel) (gw2 117 ⟨rfl, rfl⟩) 9 rfl
  · exact FLk.of1 (kd := 10) (by decide +kernel) (gw2 117 ⟨rfl, rfl⟩) 10 rfl
  · exact FLk.of1 (kd := 11) (by decide +kernel) (gw2 117 ⟨rfl, rfl⟩) 11 rfl
theorem fl_Run_131 : FLk "CallGraphs$Run" 131 2 opk (.array .boolean) true := by
  intro q hq
  rcases opk_cases hq with rfl | rfl | rfl | rfl | rfl | rfl | rfl
  · exact FLk.of1 (kd := 5) (by decide +kernel) (gw2 118 ⟨rfl, rfl⟩) 5 rfl
  · exact FLk.of1 (kd := 6) (by decide +kernel) (gw2 118 ⟨rfl, rfl⟩) 6 rfl
  · exact FLk.of1 (kd := 7) (by decide +kernel) (gw2 118 ⟨rfl, rfl⟩) 7 rfl
  · exact FLk.of1 (kd := 8) (by decide +kernel) (gw2 118 ⟨rfl, rfl⟩) 8 rfl
  · exact FLk.of1 (kd := 9) (by decide +kernel) (gw2 118 ⟨rfl, rfl⟩) 9 rfl
  · exact FLk.of1 (kd := 10) (by decide +kernel) (gw2 118 ⟨rfl, rfl⟩) 10 rfl
  · exact FLk.of1 (kd := 11) (by decide +kernel) (gw2 118 ⟨rfl, rfl⟩) 11 rfl
theorem fl_G_162 : FLk "CallGraphs" 162 2 opk (.array .boolean) true := by
  intro q hq
  rcases opk_cases hq with rfl | rfl | rfl | rfl | rfl | rfl | rfl
  · exact FLk.of1 (kd := 5) (by decide +kernel) (gw2 119 ⟨rfl, rfl⟩) 5 rfl
  · exact FLk.of1 (kd := 6) (by decide +kernel) (gw2 119 ⟨rfl, rfl⟩) 6 rfl
  · exact FLk.of1 (kd := 7) (by decide +kernel) (gw2 119 ⟨rfl, rfl⟩) 7 rfl
  · exact FLk.of1 (kd := 8) (by decide +kernel) (gw2 119 ⟨rfl, rfl⟩) 8 rfl
  · exact FLk.of1 (kd := 9) (by decide +kernel) (gw2 119 ⟨rfl, rfl⟩) 9 rfl
  · exact FLk.of1 (kd := 10) (by decide +kernel) (gw2 119 ⟨rfl, rfl⟩) 10 rfl
  · exact FLk.of1 (kd := 11) (by decide +kernel) (gw2 119 ⟨rfl, rfl⟩) 11 rfl
theorem fl_Op_15 : FLk "CallGraphs$Op" 15 3 opk (.array .int) true := by
  intro q hq
  rcases opk_cases hq with rfl | rfl | rfl | rfl | rfl | rfl | rfl
  · exact FLk.of1 (kd := 5) (by decide +kernel) (gw2 120 ⟨rfl, rfl⟩) 5 rfl
  · exact FLk.of1 (kd := 6) (by decide +kernel) (gw2 120 ⟨rfl, rfl⟩) 6 rfl
  · exact FLk.of1 (kd := 7) (by decide +kernel) (gw2 120 ⟨rfl, rfl⟩) 7 rfl
  · exact FLk.of1 (kd := 8) (by decide +kernel) (gw2 120 ⟨rfl, rfl⟩) 8 rfl
  · exact FLk.of1 (kd := 9) (by decide +kernel) (gw2 120 ⟨rfl, rfl⟩) 9 rfl
  · exact FLk.of1 (kd := 10) (by decide +kernel) (gw2 120 ⟨rfl, rfl⟩) 10 rfl
  · exact FLk.of1 (kd := 11) (by decide +kernel) (gw2 120 ⟨rfl, rfl⟩) 11 rfl
theorem fl_G_267 : FLk "CallGraphs" 267 3 opk (.array .int) true := by
  intro q hq
  rcases opk_cases hq with rfl | rfl | rfl | rfl | rfl | rfl | rfl
  · exact FLk.of1 (kd := 5) (by decide +kernel) (gw2 121 ⟨rfl, rfl⟩) 5 rfl
  · exact FLk.of1 (kd := 6) (by decide +kernel) (gw2 121 ⟨rfl, rfl⟩) 6 rfl
  · exact FLk.of1 (kd := 7) (by decide +kernel) (gw2 121 ⟨rfl, rfl⟩) 7 rfl
  · exact FLk.of1 (kd := 8) (by decide +kernel) (gw2 121 ⟨rfl, rfl⟩) 8 rfl
  · exact FLk.of1 (kd := 9) (by decide +kernel) (gw2 121 ⟨rfl, rfl⟩) 9 rfl
  · exact FLk.of1 (kd := 10) (by decide +kernel) (gw2 121 ⟨rfl, rfl⟩) 10 rfl
  · exact FLk.of1 (kd := 11) (by decide +kernel) (gw2 121 ⟨rfl, rfl⟩) 11 rfl
theorem fl_Call_9 : FLk "CallGraphs$Call" 9 4 (· == 6) (.object "CallGraphs$Type") true := FLk.of1 (by decide +kernel) (gw2 139 ⟨rfl, rfl⟩)
theorem fl_Call_15 : FLk "CallGraphs$Call" 15 5 (· == 6) (.int) true := FLk.of1 (by decide +kernel) (gw2 140 ⟨rfl, rfl⟩)
theorem fl_Up_7 : FLk "CallGraphs$Up" 7 4 (· == 7) (.object "CallGraphs$Type") true := FLk.of1 (by decide +kernel) (gw2 156 ⟨rfl, rfl⟩)
theorem fl_Up_13 : FLk "CallGraphs$Up" 13 5 (· == 7) (.int) true := FLk.of1 (by decide +kernel) (gw2 157 ⟨rfl, rfl⟩)
theorem fl_Static_9 : FLk "CallGraphs$Static" 9 4 (· == 8) (.object "CallGraphs$Type") true := FLk.of1 (by decide +kernel) (gw2 173 ⟨rfl, rfl⟩)
theorem fl_Static_15 : FLk "CallGraphs$Static" 15 5 (· == 8) (.int) true := FLk.of1 (by decide +kernel) (gw2 174 ⟨rfl, rfl⟩)
theorem fl_Put_7 : FLk "CallGraphs$Put" 7 4 (· == 9) (.int) true := FLk.of1 (by decide +kernel) (gw2 190 ⟨rfl, rfl⟩)
theorem fl_Put_13 : FLk "CallGraphs$Put" 13 5 (· == 9) (.object "CallGraphs$Member") true := FLk.of1 (by decide +kernel) (gw2 191 ⟨rfl, rfl⟩)
theorem fl_Out_9 : FLk "CallGraphs$Out" 9 4 (· == 10) (.int) true := FLk.of1 (by decide +kernel) (gw2 207 ⟨rfl, rfl⟩)
theorem fl_Any_7 : FLk "CallGraphs$Any" 7 4 (· == 11) (.int) true := FLk.of1 (by decide +kernel) (gw2 221 ⟨rfl, rfl⟩)
theorem fl_M_123 : FLk "CallGraphsModel" 123 0 (· == 12) (.int) false := FLk.of1 (by decide +kernel) (gw4 47 ⟨rfl, rfl⟩)
theorem fl_M_7 : FLk "CallGraphsModel" 7 1 (· == 12) (.array .int) true := FLk.of1 (by decide +kernel) (gw4 48 ⟨rfl, rfl⟩)
theorem fl_M_13 : FLk "CallGraphsModel" 13 2 (· == 12) (.array .int) true := FLk.of1 (by decide +kernel) (gw4 49 ⟨rfl, rfl⟩)
theorem fl_M_16 : FLk "CallGraphsModel" 16 3 (· == 12) (.array .int) true := FLk.of1 (by decide +kernel) (gw4 50 ⟨rfl, rfl⟩)
theorem fl_M_19 : FLk "CallGraphsModel" 19 4 (· == 12) (.array .int) true := FLk.of1 (by decide +kernel) (gw4 51 ⟨rfl, rfl⟩)
theorem fl_M_131 : FLk "CallGraphsModel" 131 5 (· == 12) (.int) false := FLk.of1 (by decide +kernel) (gw4 52 ⟨rfl, rfl⟩)
theorem fl_M_22 : FLk "CallGraphsModel" 22 6 (· == 12) (.array .int) true := FLk.of1 (by decide +kernel) (gw4 53 ⟨rfl, rfl⟩)
theorem fl_M_25 : FLk "CallGraphsModel" 25 7 (· == 12) (.array .int) true := FLk.of1 (by decide +kernel) (gw4 54 ⟨rfl, rfl⟩)
theorem fl_M_28 : FLk "CallGraphsModel" 28 8 (· == 12) (.array .int) true := FLk.of1 (by decide +kernel) (gw4 55 ⟨rfl, rfl⟩)
theorem fl_M_31 : FLk "CallGraphsModel" 31 9 (· == 12) (.array .boolean) true := FLk.of1 (by decide +kernel) (gw4 56 ⟨rfl, rfl⟩)
theorem fl_M_35 : FLk "CallGraphsModel" 35 10 (· == 12) (.array .int) true := FLk.of1 (by decide +kernel) (gw4 57 ⟨rfl, rfl⟩)
theorem fl_M_38 : FLk "CallGraphsModel" 38 11 (· == 12) (.array .int) true := FLk.of1 (by decide +kernel) (gw4 58 ⟨rfl, rfl⟩)
theorem fl_M_163 : FLk "CallGraphsModel" 163 12 (· == 12) (.int) false := FLk.of1 (by decide +kernel) (gw4 59 ⟨rfl, rfl⟩)
theorem fl_M_41 : FLk "CallGraphsModel" 41 13 (· == 12) (.array .int) true := FLk.of1 (by decide +kernel) (gw4 60 ⟨rfl, rfl⟩)
theorem fl_M_44 : FLk "CallGraphsModel" 44 14 (· == 12) (.array .int) true := FLk.of1 (by decide +kernel) (gw4 61 ⟨rfl, rfl⟩)
theorem fl_M_47 : FLk "CallGraphsModel" 47 15 (· == 12) (.array .int) true := FLk.of1 (by decide +kernel) (gw4 62 ⟨rfl, rfl⟩)
theorem fl_M_119 : FLk "CallGraphsModel" 119 16 (· == 12) (.boolean) false := FLk.of1 (by decide +kernel) (gw4 63 ⟨rfl, rfl⟩)
theorem fl_M_186 : FLk "CallGraphsModel" 186 17 (· == 12) (.boolean) false := FLk.of1 (by decide +kernel) (gw4 64 ⟨rfl, rfl⟩)
theorem fl_M_50 : FLk "CallGraphsModel" 50 18 (· == 12) (.array .boolean) true := FLk.of1 (by decide +kernel) (gw4 65 ⟨rfl, rfl⟩)
theorem fl_M_53 : FLk "CallGraphsModel" 53 19 (· == 12) (.array .boolean) true := FLk.of1 (by decide +kernel) (gw4 66 ⟨rfl, rfl⟩)
theorem fl_M_56 : FLk "CallGraphsModel" 56 20 (· == 12) (.array .boolean) true := FLk.of1 (by decide +kernel) (gw4 67 ⟨rfl, rfl⟩)
theorem fl_M_59 : FLk "CallGraphsModel" 59 21 (· == 12) (.array .boolean) true := FLk.of1 (by decide +kernel) (gw4 68 ⟨rfl, rfl⟩)
theorem fl_M_62 : FLk "CallGraphsModel" 62 22 (· == 12) (.array .boolean) true := FLk.of1 (by decide +kernel) (gw4 69 ⟨rfl, rfl⟩)
theorem fl_M_65 : FLk "CallGraphsModel" 65 23 (· == 12) (.array .int) true := FLk.of1 (by decide +kernel) (gw4 70 ⟨rfl, rfl⟩)
theorem fl_M_68 : FLk "CallGraphsModel" 68 24 (· == 12) (.array .boolean) true := FLk.of1 (by decide +kernel) (gw4 71 ⟨rfl, rfl⟩)
theorem fl_M_71 : FLk "CallGraphsModel" 71 25 (· == 12) (.array .boolean) true := FLk.of1 (by decide +kernel) (gw4 72 ⟨rfl, rfl⟩)
theorem fl_M_134 : FLk "CallGraphsModel" 134 26 (· == 12) (.boolean) false := FLk.of1 (by decide +kernel) (gw4 73 ⟨rfl, rfl⟩)
theorem fl_M_74 : FLk "CallGraphsModel" 74 27 (· == 12) (.array .boolean) true := FLk.of1 (by decide +kernel) (gw4 74 ⟨rfl, rfl⟩)
theorem fl_M_77 : FLk "CallGraphsModel" 77 28 (· == 12) (.array .boolean) true := FLk.of1 (by decide +kernel) (gw4 75 ⟨rfl, rfl⟩)
theorem fl_M_80 : FLk "CallGraphsModel" 80 29 (· == 12) (.array .boolean) true := FLk.of1 (by decide +kernel) (gw4 76 ⟨rfl, rfl⟩)
theorem fl_M_83 : FLk "CallGraphsModel" 83 30 (· == 12) (.array .boolean) true := FLk.of1 (by decide +kernel) (gw4 77 ⟨rfl, rfl⟩)
theorem fl_M_86 : FLk "CallGraphsModel" 86 31 (· == 12) (.array .boolean) true := FLk.of1 (by decide +kernel) (gw4 78 ⟨rfl, rfl⟩)
theorem fl_M_89 : FLk "CallGraphsModel" 89 32 (· == 12) (.array .int) true := FLk.of1 (by decide +kernel) (gw4 79 ⟨rfl, rfl⟩)
theorem fl_M_92 : FLk "CallGraphsModel" 92 33 (· == 12) (.array .int) true := FLk.of1 (by decide +kernel) (gw4 80 ⟨rfl, rfl⟩)
theorem fl_M_95 : FLk "CallGraphsModel" 95 34 (· == 12) (.array .int) true := FLk.of1 (by decide +kernel) (gw4 81 ⟨rfl, rfl⟩)
theorem fl_M_98 : FLk "CallGraphsModel" 98 35 (· == 12) (.array .int) true := FLk.of1 (by decide +kernel) (gw4 82 ⟨rfl, rfl⟩)
theorem fl_M_101 : FLk "CallGraphsModel" 101 36 (· == 12) (.array .int) true := FLk.of1 (by decide +kernel) (gw4 83 ⟨rfl, rfl⟩)
theorem fl_M_247 : FLk "CallGraphsModel" 247 37 (· == 12) (.int) false := FLk.of1 (by decide +kernel) (gw4 84 ⟨rfl, rfl⟩)
theorem fl_M_239 : FLk "CallGraphsModel" 239 38 (· == 12) (.long) false := FLk.of1 (by decide +kernel) (gw4 85 ⟨rfl, rfl⟩)
theorem fl_M_256 : FLk "CallGraphsModel" 256 39 (· == 12) (.int) false := FLk.of1 (by decide +kernel) (gw4 86 ⟨rfl, rfl⟩)
theorem fl_M_253 : FLk "CallGraphsModel" 253 40 (· == 12) (.int) false := FLk.of1 (by decide +kernel) (gw4 87 ⟨rfl, rfl⟩)
theorem fl_M_259 : FLk "CallGraphsModel" 259 41 (· == 12) (.int) false := FLk.of1 (by decide +kernel) (gw4 88 ⟨rfl, rfl⟩)
theorem fl_M_262 : FLk "CallGraphsModel" 262 42 (· == 12) (.int) false := FLk.of1 (by decide +kernel) (gw4 89 ⟨rfl, rfl⟩)
theorem fl_M_250 : FLk "CallGraphsModel" 250 43 (· == 12) (.boolean) false := FLk.of1 (by decide +kernel) (gw4 90 ⟨rfl, rfl⟩)
theorem fl_M_104 : FLk "CallGraphsModel" 104 44 (· == 12) (.array .boolean) true := FLk.of1 (by decide +kernel) (gw4 91 ⟨rfl, rfl⟩)
theorem fl_M_107 : FLk "CallGraphsModel" 107 45 (· == 12) (.array .boolean) true := FLk.of1 (by decide +kernel) (gw4 92 ⟨rfl, rfl⟩)
theorem fl_M_110 : FLk "CallGraphsModel" 110 46 (· == 12) (.array .int) true := FLk.of1 (by decide +kernel) (gw4 93 ⟨rfl, rfl⟩)
theorem fl_M_268 : FLk "CallGraphsModel" 268 47 (· == 12) (.int) false := FLk.of1 (by decide +kernel) (gw4 94 ⟨rfl, rfl⟩)
theorem fl_M_113 : FLk "CallGraphsModel" 113 48 (· == 12) (.array .int) true := FLk.of1 (by decide +kernel) (gw4 95 ⟨rfl, rfl⟩)
theorem fl_M_116 : FLk "CallGraphsModel" 116 49 (· == 12) (.array .int) true := FLk.of1 (by decide +kernel) (gw4 96 ⟨rfl, rfl⟩)
