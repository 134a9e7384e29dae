set_option maxRecDepth 100000
theorem at1_o {G : Gt} {a : Nat} {w : Bool} {ci : Nat} {fs : List Value} {H : Heap} (h : at1 G a (w, .inr (ci, fs)) H) : ∃ (r : vw_C) (cell : Cell), CL[ci]? = some r ∧ H[a]? = some cell ∧ cell.cls = (g_D G).1 ci ∧ cell.vm.isStatics = false ∧ cell.vm ≠ .unknown ∧ ∀ (k : Nat) (v : Value), fs[k]? = some v → cell.slots[(g_D G).2 ci k]? = some v := by
  cases w with
  | true =>
    obtain ⟨-, ⟨r, h1, cell, g1, g2, g3, g4⟩, r', h2, h3⟩ := h
    cases h1.symm.trans h2
    refine ⟨r, cell, h1, g1, g2, by rw [g3]; rfl, by rw [g3]; exact fun z => (by cases z), fun k v hv => ?_⟩
    have hk : k < r.2.2 := by rw [← h3]; exact (List.getElem?_eq_some_iff.mp hv).1
    rw [g4 k hk]
    simp [vp_V, hv]
  | false =>
    obtain ⟨-, ⟨r, h1⟩, cell, g1, g2, g3, g4, g5⟩ := h
    exact ⟨r, cell, h1, g1, g2, g3, g4, g5⟩
theorem vp_el_at (cA : ClassId) (x : vp_A) {j : Nat} (h : j < x.1) : (vp_cell cA x).slots[j]? = some (vp_el x j) := by
  obtain ⟨n, f | f | f | f | f⟩ := x <;> exact arrV_read _ _ h
theorem vp_cell_size (cA : ClassId) (x : vp_A) : (vp_cell cA x).slots.size = x.1 := by
  obtain ⟨n, f | f | f | f | f⟩ := x <;> exact arrV_size _ _ _
theorem vp_cell_vm (cA : ClassId) (x : vp_A) : (vp_cell cA x).vm = .none := by
  obtain ⟨n, f | f | f | f | f⟩ := x <;> rfl
theorem vp_cell_arr {U : State} {cA : ClassId} {ty : FieldType} (h : ArrOfT U cA ty) (x : vp_A) : U.isArrayOf (vp_cell cA x) ty := by
  obtain ⟨n, f | f | f | f | f⟩ := x <;> exact h n _
theorem tysG_at {G : Gt} {t : Nat} (h : t < 6) : (tysG G)[t]? = some (g_A G t, AT t) := by
  match t, h with
  | 0, _ => rfl
  | 1, _ => rfl
  | 2, _ => rfl
  | 3, _ => rfl
  | 4, _ => rfl
  | 5, _ => rfl
/-- an array, made or constant, as a state of the run sees it -/
theorem at1_a {G : Gt} {E : Ev} {Y : Yt} {cc : ByteArray} {nL : Nat} (C : Cx G E Y cc nL) {a : Nat} {w : Bool} {t : Nat} {x : vp_A} {H : Heap} (h : at1 G a (w, .inl (t, x)) H) : ∃ cell : Cell, H[a]? = some cell ∧ (e_s E).isArrayOf cell (AT t) ∧ cell.vm ≠ .unknown ∧ cell.slots.size = x.1 ∧ ∀ j : Nat, j < x.1 → cell.slots[j]? = some (vp_el x j) := by
  cases w with
  | true =>
    obtain ⟨-, h1, h2⟩ := h
    exact ⟨_, h1, vp_cell_arr (C.K.2 _ _ (tysG_at h2)).1 x, by rw [vp_cell_vm]; exact fun z => (by cases z), vp_cell_size _ _, fun j hj => vp_el_at _ _ hj⟩
  | false =>
    obtain ⟨-, cell, g1, g2, g3⟩ := h
    exact ⟨cell, g1, State.isArrayOf_alike C.warm.alike g2, g3⟩
