/-! LAYER V, first part: abstract heaps over the kit's W. -/
set_option maxRecDepth 100000
abbrev AC : Type := Bool × ((Nat × vp_A) ⊕ (Nat × List Value))
abbrev Hp : Type := Nat → Option AC
/-- ghosts: the state at the law's start; class numbers and slots; array classes; static references; String constants -/
abbrev Gt : Type := State × va_G × (Nat → ClassId) × (Nat → Option Nat) × (Nat → Nat)
abbrev g_s (G : Gt) : State := G.1
abbrev g_D (G : Gt) : va_G := G.2.1
abbrev g_A (G : Gt) : Nat → ClassId := G.2.2.1
abbrev g_r (G : Gt) : Nat → Option Nat := G.2.2.2.1
abbrev g_k (G : Gt) : Nat → Nat := G.2.2.2.2
def g_B (G : Gt) : Nat := (g_s G).heap.size
def CL : List vw_C := [(RX0, TX0, 7), (RX1, TX1, 8), (RX2, TX2, 18), (RX3, TX3, 2), (RX4, TX4, 8), (RX5, TX5, 6), (RX6, TX6, 2), (RX7, TX7, 2), (RX8, TX8, 7), (RX9, TX9, 2), (RJ2, TJ2, 3), (RJ8, TJ8, 4), (RJ3, TJ3, 3), (RJ5, TJ5, 4), (RJ6, TJ6, 4), (RJ16, TJ16, 3), (RJ19, TJ19, 1), (RJ22, TJ22, 12), (RJ25, TJ25, 1), (RJ27, TJ27, 4), (RJ28, TJ28, 3), (RJ31, TJ31, 6), (RJ35, TJ35, 2), (RJ39, TJ39, 5)]
def AT : Nat → FieldType := fun k => match k with
  | 0 => .int
  | 1 => .byte
  | 2 => .long
  | 3 => .object "java/lang/Object"
  | 4 => .object "java/util/HashMap$Node"
  | 5 => .object "java/lang/String"
  | _ => .object "java/lang/Integer"
abbrev tysG (G : Gt) : List (ClassId × FieldType) := [(g_A G 0, AT 0), (g_A G 1, AT 1), (g_A G 2, AT 2), (g_A G 3, AT 3), (g_A G 4, AT 4), (g_A G 5, AT 5)]
/-- statics: class, field, descriptor, value -/
def statT (G : Gt) : List (String × String × String × Value) := [("java/lang/String", "COMPACT_STRINGS", "Z", .int 1), ("java/lang/Throwable", "UNASSIGNED_STACK", "[Ljava/lang/StackTraceElement;", va_rf (g_r G 0)), ("java/lang/Throwable", "SUPPRESSED_SENTINEL", "Ljava/util/List;", va_rf (g_r G 1)), ("java/util/HashSet", "PRESENT", "Ljava/lang/Object;", va_rf (g_r G 2)), ("java/lang/Integer$IntegerCache", "cache", "[Ljava/lang/Integer;", va_rf (g_r G 3)), ("java/lang/Integer$IntegerCache", "high", "I", .int 127), ("java/util/BitSet", "$assertionsDisabled", "Z", .int 1), ("java/lang/Integer", "DigitTens", "[B", va_rf (g_r G 4)), ("java/lang/Integer", "DigitOnes", "[B", va_rf (g_r G 5)), ("jdk/internal/util/ArraysSupport", "BIG_ENDIAN", "Z", .int 0), ("jdk/internal/util/Preconditions", "SIOOBE_FORMATTER", "Ljava/util/function/BiFunction;", va_rf (g_r G 6))]
def vp_el (x : vp_A) (j : Nat) : Value := match x.2 with
  | .inl f => .int (f j)
  | .inr (.inl f) => .long (f j)
  | .inr (.inr (.inl f)) => .float (f j)
  | .inr (.inr (.inr (.inl f))) => .double (f j)
  | .inr (.inr (.inr (.inr f))) => va_rf (f j)
def eC (G : Gt) (e : (Nat × vp_A) ⊕ (Nat × List Value)) : va_E := match e with
  | .inl q => .inl (g_A G q.1, q.2)
  | .inr o => .inr o
def wfE (e : (Nat × vp_A) ⊕ (Nat × List Value)) : Prop := match e with
  | .inl q => q.1 < 6
  | .inr o => ∃ r : vw_C, CL[o.1]? = some r ∧ o.2.length = r.2.2
def at1 (G : Gt) (a : Nat) (o : AC) (H : Heap) : Prop := match o with
  | (true, e) => g_B G ≤ a ∧ va_at (g_D G) CL (a, eC G e) H ∧ wfE e
  | (false, .inl q) => a < g_B G ∧ ∃ cell : Cell, H[a]? = some cell ∧ (g_s G).isArrayOf cell (AT q.1) ∧ cell.vm ≠ .unknown ∧ cell.slots.size = q.2.1 ∧ ∀ j : Nat, j < q.2.1 → cell.slots[j]? = some (vp_el q.2 j)
  | (false, .inr o) => a < g_B G ∧ (∃ r : vw_C, CL[o.1]? = some r) ∧ ∃ cell : Cell, H[a]? = some cell ∧ cell.cls = (g_D G).1 o.1 ∧ cell.vm.isStatics = false ∧ cell.vm ≠ .unknown ∧ ∀ (k : Nat) (v : Value), o.2[k]? = some v → cell.slots[(g_D G).2 o.1 k]? = some v
def Rep (G : Gt) (h : Hp) (H : Heap) : Prop := g_B G ≤ H.size ∧ (∀ q : Nat, q < g_B G → H[q]? = (g_s G).heap[q]?) ∧ ∀ (a : Nat) (o : AC), h a = some o → at1 G a o H
def hs (h : Hp) (a : Nat) (o : AC) : Hp := fun b => if b = a then some o else h b
theorem hs_eq (h : Hp) (a : Nat) (o : AC) : hs h a o a = some o := by simp [hs]
theorem hs_ne {h : Hp} {a b : Nat} {o : AC} (e : b ≠ a) : hs h a o b = h b := by simp [hs, e]
theorem at1.kept {G : Gt} {a : Nat} {o : AC} {H H1 : Heap} (h : at1 G a o H) (hq : H1[a]? = H[a]?) : at1 G a o H1 := by
  obtain ⟨w, e⟩ := o
  cases w with
  | true => exact ⟨h.1, h.2.1.kept hq, h.2.2⟩
  | false =>
    cases e with
    | inl q =>
      obtain ⟨h1, cell, h2, h3⟩ := h
      exact ⟨h1, cell, by rw [hq]; exact h2, h3⟩
    | inr o =>
      obtain ⟨h1, h0, cell, h2, h3⟩ := h
      exact ⟨h1, h0, cell, by rw [hq]; exact h2, h3⟩
theorem at1.lt {G : Gt} {a : Nat} {o : AC} {H : Heap} (h : at1 G a o H) : a < H.size := by
  obtain ⟨w, e⟩ := o
  cases w with
  | true => exact h.2.1.lt
  | false =>
    cases e with
    | inl q =>
      obtain ⟨h1, cell, h2, h3⟩ := h
      exact (Array.getElem?_eq_some_iff.mp h2).1
    | inr o =>
      obtain ⟨h1, h0, cell, h2, h3⟩ := h
      exact (Array.getElem?_eq_some_iff.mp h2).1
theorem Rep.fresh {G : Gt} {h : Hp} {H : Heap} (R : Rep G h H) : h H.size = none := by
  cases e : h H.size with
  | none => rfl
  | some o => exact absurd (R.2.2 _ _ e).lt (Nat.lt_irrefl _)
theorem Rep.set {G : Gt} {h : Hp} {H H1 : Heap} (R : Rep G h H) {a : Nat} {o : AC} (hB : g_B G ≤ a) (hz : H1.size = H.size) (ha : at1 G a o H1) (hq : ∀ q, q ≠ a → H1[q]? = H[q]?) : Rep G (hs h a o) H1 := by
  refine ⟨by rw [hz]; exact R.1, fun q h1 => ?_, fun b x hb => ?_⟩
  · rw [hq q (by omega)]; exact R.2.1 q h1
  · by_cases e : b = a
    · subst e
      rw [hs_eq] at hb
      cases hb
      exact ha
    · rw [hs_ne e] at hb
      exact (R.2.2 b x hb).kept (hq b e)
theorem Rep.push {G : Gt} {h : Hp} {H H1 : Heap} (R : Rep G h H) {o : AC} (hz : H1.size = H.size + 1) (ha : at1 G H.size o H1) (hq : ∀ q, q < H.size → H1[q]? = H[q]?) : Rep G (hs h H.size o) H1 := by
  have hB := R.1
  refine ⟨by rw [hz]; omega, fun q h1 => ?_, fun b x hb => ?_⟩
  · rw [hq q (by omega)]; exact R.2.1 q h1
  · by_cases e : b = H.size
    · subst e
      rw [hs_eq] at hb
      cases hb
      exact ha
    · rw [hs_ne e] at hb
      exact (R.2.2 b x hb).kept (hq b (R.2.2 b x hb).lt)
/-- no object of the first is one of the second -/
def ncT : List (String × String) := [("java/util/LinkedHashMap$Entry", "java/util/HashMap$TreeNode"), ("ParityMaze$Refused", "ParityMaze$Wrong")]
/-- strings: owner, place, text, ghost number -/
def strT : List (String × Nat × String × Nat) := [("ParityMaze", 29, "", 9), ("ParityMaze$Reader", 71, "go ", 0), ("ParityMaze$Reader", 73, "wait ", 1), ("ParityMaze$Reader", 75, "take ", 2), ("ParityMaze$Reader", 77, "open ", 3), ("ParityMaze$Reader", 79, "oil ", 4), ("ParityMaze$Reader", 81, "room ", 5), ("ParityMaze$Reader", 83, "key ", 6), ("ParityMaze$Reader", 85, "door ", 7), ("ParityMaze$Command", 25, "go ", 0), ("ParityMaze$Command", 31, "wait ", 1), ("ParityMaze$Command", 33, "take ", 2), ("ParityMaze$Command", 97, "open ", 3), ("ParityMaze$Command", 61, "oil ", 4), ("ParityMaze$Command", 63, "room ", 5), ("ParityMaze$Command", 65, "key ", 6), ("ParityMaze$Room", 36, "@", 8), ("ParityMaze$Room", 38, "", 9), ("ParityMaze$Door", 57, "!", 10), ("ParityMaze$Door", 66, "", 9), ("ParityMazeModel", 182, "o ", 11), ("ParityMazeModel", 188, "ait ", 12), ("ParityMazeModel", 190, "ake ", 13), ("ParityMazeModel", 192, "oom ", 14), ("ParityMazeModel", 194, "ey ", 15), ("ParityMazeModel", 196, "oor ", 16), ("ParityMazeModel", 201, "en ", 17), ("ParityMazeModel", 203, "il ", 18)]
def Base (G : Gt) : Prop := (∃ A0 : Array Value, ∀ w ∈ lw_tbl, w.before A0 (g_s G) = true) ∧ va_K (g_D G) CL (tysG G) (g_s G) ∧ (∀ q ∈ statT G, va_Z q.1 q.2.1 q.2.2.1 q.2.2.2 (fun a => g_B G ≤ a) (g_s G) (g_s G).heap) ∧ (∀ q ∈ strT, vk_R q.1 q.2.1 q.2.2.1 (g_k G q.2.2.2) (g_s G)) ∧ ∀ q ∈ ncT, va_Nc q.1 q.2 (g_s G)
abbrev Ev : Type := Program × Launch × Env × Room × State × MethodId × Array Value × List Frame × Method × Code
abbrev e_p (E : Ev) : Program := E.1
abbrev e_l (E : Ev) : Launch := E.2.1
abbrev e_e (E : Ev) : Env := E.2.2.1
abbrev e_R (E : Ev) : Room := E.2.2.2.1
abbrev e_s (E : Ev) : State := E.2.2.2.2.1
abbrev e_m (E : Ev) : MethodId := E.2.2.2.2.2.1
abbrev e_a (E : Ev) : Array Value := E.2.2.2.2.2.2.1
abbrev e_b (E : Ev) : List Frame := E.2.2.2.2.2.2.2.1
abbrev e_t (E : Ev) : Method := E.2.2.2.2.2.2.2.2.1
abbrev e_c (E : Ev) : Code := E.2.2.2.2.2.2.2.2.2
/-- a method: its name, answer, frames and words of room, its table -/
abbrev Yt : Type := MethodName × Option FieldType × Nat × Nat × List (Nat × Nat × Nat × Nat)
abbrev y_n (Y : Yt) : MethodName := Y.1
abbrev y_r (Y : Yt) : Option FieldType := Y.2.1
abbrev y_f (Y : Yt) : Nat := Y.2.2.1
abbrev y_o (Y : Yt) : Nat := Y.2.2.2.1
abbrev y_h (Y : Yt) : List (Nat × Nat × Nat × Nat) := Y.2.2.2.2
def Cx (G : Gt) (E : Ev) (Y : Yt) (cc : ByteArray) (nL : Nat) : Prop :=
  (e_p E).tables.exec = Jvm.exec ∧ (e_c E).code = cc ∧ (e_c E).maxLocals = nL ∧ (e_s E).vm.findClass (y_n Y).cls = some (e_m E).cls ∧ (g_s G).WarmedH (e_s E).vm ∧ (e_t E).sig.returnType = y_r Y ∧ (e_t E).locks = false ∧ (e_t E).name = (y_n Y).name ∧ (e_c E).exceptionTable.toList = tableOf (y_h Y) ∧ (e_R E).frames = y_f Y ∧ (e_R E).locals = y_o Y ∧ Base G
def lvh (ls : Array Slot) (nL : Nat) (lv : List (Nat × Value)) : Prop := lv_has ls nL lv ∧ ∀ q ∈ lv, q.2.category = 1
def V (G : Gt) (E : Ev) (Y : Yt) (cc : ByteArray) (nL : Nat) (Q : State → Prop) (h : Hp) (k n pc : Nat) (lv : List (Nat × Value)) (st : List Value) : Prop :=
  Cx G E Y cc nL → ∀ (H : Heap) (locs : List Loc) (cells slots : Nat) (ls : Array Slot), Rep G h H → (e_s E).heap.size ≤ H.size → (∀ q ∈ locs, g_B G ≤ q.base) → cells + k ≤ (e_R E).cells → slots + n ≤ (e_R E).slots → lvh ls nL lv →
    W (e_p E) (e_l E) (e_e E) (e_R E) (e_s E) (e_m E) (e_a E) (e_b E) (e_t E) (e_c E) H locs cells slots Q (F0 (e_m E) pc ls st)
def VX (G : Gt) (E : Ev) (Y : Yt) (cc : ByteArray) (nL : Nat) (Q : State → Prop) (h : Hp) (k n pc : Nat) (lv : List (Nat × Value)) (ci q : Nat) : Prop :=
  Cx G E Y cc nL → ∀ (H : Heap) (locs : List Loc) (cells slots : Nat) (ls : Array Slot) (rest : List Value) (r : vw_C) (ce : Cell), Rep G h H → (e_s E).heap.size ≤ H.size → (∀ q ∈ locs, g_B G ≤ q.base) → cells + k ≤ (e_R E).cells → slots + n ≤ (e_R E).slots → lvh ls nL lv →
    CL[ci]? = some r → H[q]? = some ce → ce.vm = .none → (e_s E).vm.findClass r.1 = some ce.cls →
    vx_W (e_p E) (e_l E) (e_e E) (e_R E) (e_s E) (e_m E) (e_a E) (e_b E) (e_t E) (e_c E) H locs cells slots Q (F0 (e_m E) pc ls rest) q
def QcP (G : Gt) (P : Option Value → Hp → Prop) : Array Value → State → Outcome → State → Prop := fun _ st oc t => (∃ (v : Option Value) (h' : Hp), oc = .returned v ∧ P v h' ∧ Rep G h' t.heap) ∧ st.heap.size ≤ t.heap.size
def XcP (G : Gt) (X : Nat → Nat → Hp → Prop) : String → Addr → State → State → Prop := fun E q st t => (∃ (ci : Nat) (r : vw_C) (h' : Hp), CL[ci]? = some r ∧ r.1 = E ∧ X ci q h' ∧ Rep G h' t.heap) ∧ st.heap.size ≤ t.heap.size
def QM (G : Gt) (E : Ev) (P : Option Value → Hp → Prop) (X : Nat → Nat → Hp → Prop) : State → Prop := vx_MQ (e_b E) (QcP G P) (XcP G X) (e_a E) (e_s E) (e_R E).cells (e_R E).slots (fun q => g_B G ≤ q)
def wsY (Y : Yt) (cc : ByteArray) (nL : Nat) : List Cond := match y_h Y with
  | [] => ws_ (y_n Y) cc nL (y_r Y)
  | q :: hh => wsW_ (y_n Y) cc nL (y_r Y) (q :: hh)
def rmY (Y : Yt) (mc ms : Nat) : Room := { frames := y_f Y, cells := mc, slots := ms, locals := y_o Y }
def PcP (G : Gt) (args : List Value) (h : Hp) : Array Value → State → Prop := va_Pc args (fun U => Rep G h U.heap ∧ (g_s G).WarmedH U.vm)
/-- the contract of a method over abstract heaps -/
def MM (G : Gt) (Y : Yt) (cc : ByteArray) (nL mc ms : Nat) (args : List Value) (h : Hp) (P : Option Value → Hp → Prop) (X : Nat → Nat → Hp → Prop) : Prop :=
  ∀ l : Launch, vx_Met l (y_n Y) (wsY Y cc nL) (rmY Y mc ms) (PcP G args h) (QcP G P) (XcP G X) mc ms (fun q => g_B G ≤ q)
theorem PcP.blind {G : Gt} {args : List Value} {h : Hp} : FrameBlind (PcP G args h) := fun _ _ _ _ q => ⟨q.1, q.2.1, q.2.2⟩
section VC
variable {G : Gt} {E : Ev} {Y : Yt} {cc : ByteArray} {nL : Nat}
theorem Cx.w (C : Cx G E Y cc nL) {w : Cond} (h : w ∈ lw_all) : w.before (e_a E) (e_s E) = true := by
  obtain ⟨-, -, -, -, hW, -, -, -, -, -, -, ⟨A0, h0⟩, -⟩ := C
  exact word_at hW (good_of_word (List.mem_filter.mp h).2) (h0 _ (lw_all_tbl h))
theorem Cx.ts (C : Cx G E Y cc nL) : ∀ w ∈ lw_all, w.before (e_a E) (e_s E) = true := fun _ h => C.w h
theorem Cx.nw (C : Cx G E Y cc nL) {w : Cond} (h : w ∈ lw_tbl) (hw : w.onTables = true) : va_Nw w (g_s G) := by
  obtain ⟨-, -, -, -, hW, -, -, -, -, -, -, ⟨A0, h0⟩, -⟩ := C
  exact va_Nw.of hw (h0 _ h)
theorem Cx.warm (C : Cx G E Y cc nL) : (g_s G).WarmedH (e_s E).vm := C.2.2.2.2.1
theorem Cx.K (C : Cx G E Y cc nL) : va_K (g_D G) CL (tysG G) (e_s E) := va_K.moved C.warm.alike C.2.2.2.2.2.2.2.2.2.2.2.2.1
theorem Cx.own (C : Cx G E Y cc nL) : (e_s E).vm.findClass (y_n Y).cls = some (e_m E).cls := C.2.2.2.1
theorem Cx.fix (C : Cx G E Y cc nL) : CallFix (e_p E) (e_m E) (e_c E) cc nL (e_s E) (e_a E) lw_all (y_n Y).cls := ⟨C.1, C.2.1, C.2.2.1, C.own, C.ts⟩
end VC
