/-! LAYER V, second part: rows of one instruction that don't touch the heap (printed by tools/genrows.py) -/
set_option maxRecDepth 100000
def lget (i : Nat) : List (Nat × Value) → Option Value
  | [] => none
  | q :: l => if q.1 = i then some q.2 else lget i l
def lset (i : Nat) (v : Value) : List (Nat × Value) → List (Nat × Value)
  | [] => [(i, v)]
  | q :: l => if q.1 = i then (i, v) :: l else if i < q.1 then (i, v) :: q :: l else q :: lset i v l
theorem lget_mem {i : Nat} {v : Value} : ∀ {l : List (Nat × Value)}, lget i l = some v → (i, v) ∈ l
  | q :: l, h => by
    unfold lget at h
    split at h
    · rename_i e; cases h; subst e; exact List.mem_cons_self
    · exact List.mem_cons_of_mem _ (lget_mem h)
/-- the places of a list of locals, apart and in order -/
def lord : List (Nat × Value) → Bool
  | [] => true
  | [_] => true
  | q :: r :: l => decide (q.1 < r.1) && lord (r :: l)
theorem lset_mem {i : Nat} {v : Value} {x : Nat × Value} : ∀ {l : List (Nat × Value)}, lord l = true → x ∈ lset i v l → x = (i, v) ∨ (x ∈ l ∧ x.1 ≠ i)
  | [], _, h => by
    simp [lset] at h; exact Or.inl h
  | q :: l, ho, h => by
    have gt : ∀ {l : List (Nat × Value)} {q : Nat × Value}, lord (q :: l) = true → ∀ y ∈ l, q.1 < y.1 := by
      intro l
      induction l with
      | nil => intro q _ y hy; cases hy
      | cons r l ih =>
        intro q hq y hy
        simp only [lord, Bool.and_eq_true, decide_eq_true_eq] at hq
        rcases List.mem_cons.mp hy with e | e
        · rw [e]; exact hq.1
        · exact Nat.lt_trans hq.1 (ih hq.2 y e)
    unfold lset at h
    split at h
    · rename_i e
      rcases List.mem_cons.mp h with e2 | e2
      · exact Or.inl e2
      · exact Or.inr ⟨List.mem_cons_of_mem _ e2, fun z => by have := gt ho x e2; omega⟩
    · rename_i e
      split at h
      · rename_i e3
        rcases List.mem_cons.mp h with e2 | e2
        · exact Or.inl e2
        · refine Or.inr ⟨e2, fun z => ?_⟩
          rcases List.mem_cons.mp e2 with e4 | e4
          · rw [e4] at z; exact e z
          · have := gt ho x e4; omega
      · have hl : lord l = true := by
          cases l with
          | nil => rfl
          | cons r l => simp only [lord, Bool.and_eq_true] at ho; exact ho.2
        rcases List.mem_cons.mp h with e2 | e2
        · exact Or.inr ⟨by rw [e2]; exact List.mem_cons_self, by rw [e2]; exact e⟩
        · rcases lset_mem hl e2 with e5 | ⟨e5, e6⟩
          · exact Or.inl e5
          · exact Or.inr ⟨List.mem_cons_of_mem _ e5, e6⟩
theorem lvh_set {ls' : Array Slot} {nL : Nat} {lv : List (Nat × Value)} {i : Nat} {v : Value} (h1 : ∀ q ∈ lv, q.2.category = 1) (hv : v.category = 1) (ho : lord lv = true) (h : lv_has ls' nL ((i, v) :: lv.filter (fun q => !(q.1 == i) && !(q.1 + 1 == i && q.2.category == 2)))) : lvh ls' nL (lset i v lv) := by
  refine ⟨⟨h.1, h.2.1, fun q hq => ?_⟩, fun q hq => ?_⟩
  · rcases lset_mem ho hq with e | ⟨e, e2⟩
    · rw [e]; exact h.2.2 _ List.mem_cons_self
    · refine h.2.2 q (List.mem_cons_of_mem _ (List.mem_filter.mpr ⟨e, ?_⟩))
      simp [e2, h1 q e]
  · rcases lset_mem ho hq with e | ⟨e, -⟩
    · rw [e]; exact hv
    · exact h1 q e
theorem rf_cat (r : Option Nat) : (va_rf r).category = 1 := by cases r <;> rfl
theorem cat_le2 (v : Value) : v.category ≤ 2 := by cases v <;> simp [Value.category]
theorem cat_len {st : List Value} (h : st.length ≤ 4) : (st.map fun v => v.category).sum ≤ 8 := by
  have key : ∀ l : List Value, (l.map fun v => v.category).sum ≤ 2 * l.length := by
    intro l
    induction l with
    | nil => exact Nat.le_refl 0
    | cons v l ih =>
      have := cat_le2 v
      simp only [List.map_cons, List.sum_cons, List.length_cons]
      omega
  have := key st
  omega
section VV
variable {G : Gt} {E : Ev} {Y : Yt} {cc : ByteArray} {nL : Nat} {Q : State → Prop} {h : Hp} {k n pc : Nat} {lv : List (Nat × Value)} {st : List Value}
theorem V.pure {pc' : Nat} {st' : List Value} (row : ∀ (H : Heap) (locs : List Loc) (cells slots : Nat) (ls : Array Slot), (e_p E).tables.exec = Jvm.exec → (e_c E).code = cc → lvh ls nL lv → W (e_p E) (e_l E) (e_e E) (e_R E) (e_s E) (e_m E) (e_a E) (e_b E) (e_t E) (e_c E) H locs cells slots Q (F0 (e_m E) pc' ls st') → W (e_p E) (e_l E) (e_e E) (e_R E) (e_s E) (e_m E) (e_a E) (e_b E) (e_t E) (e_c E) H locs cells slots Q (F0 (e_m E) pc ls st))
    (kk : V G E Y cc nL Q h k n pc' lv st') : V G E Y cc nL Q h k n pc lv st := fun C H locs cells slots ls a1 a2 a3 a4 a5 a6 => row H locs cells slots ls C.1 C.2.1 a6 (kk C H locs cells slots ls a1 a2 a3 a4 a5 a6)
theorem V.weak {k' n' : Nat} (kk : V G E Y cc nL Q h k' n' pc lv st) (h1 : k' ≤ k) (h2 : n' ≤ n) : V G E Y cc nL Q h k n pc lv st := fun C H locs cells slots ls a1 a2 a3 a4 a5 a6 => kk C H locs cells slots ls a1 a2 a3 (Nat.le_trans (Nat.add_le_add_left h1 _) a4) (Nat.le_trans (Nat.add_le_add_left h2 _) a5) a6
/-- fewer locals -/
theorem V.lsub {lv' : List (Nat × Value)} (hl : ∀ q ∈ lv', q ∈ lv) (kk : V G E Y cc nL Q h k n pc lv' st) : V G E Y cc nL Q h k n pc lv st := fun C H locs cells slots ls a1 a2 a3 a4 a5 a6 => kk C H locs cells slots ls a1 a2 a3 a4 a5 ⟨⟨a6.1.1, a6.1.2.1, fun q hq => a6.1.2.2 q (hl q hq)⟩, fun q hq => a6.2 q (hl q hq)⟩
def lpick (l : List (Nat × Value)) (ks : List Nat) : List (Nat × Value) := ks.filterMap (fun k => l[k]?)
theorem V.lp {lv' : List (Nat × Value)} (ks : List Nat) (hl : lpick lv ks = lv') (kk : V G E Y cc nL Q h k n pc lv' st) : V G E Y cc nL Q h k n pc lv st := V.lsub (fun q hq => by
  rw [← hl] at hq
  obtain ⟨i, -, hi⟩ := List.mem_filterMap.mp hq
  exact List.mem_of_getElem? hi) kk

theorem v_iconst {z : Int} {v : Int32} (hd : decode cc pc = .ok (.iconst z, 1)) (hv : Int32.ofInt z = v) (kk : V G E Y cc nL Q h k n (pc + 1) lv (.int v :: st)) : V G E Y cc nL Q h k n pc lv st := V.pure (fun _ _ _ _ ls hx hb hl w => lv_iconst hx hb hd hv w) kk
theorem v_bipush {z : Int} {v : Int32} (hd : decode cc pc = .ok (.bipush z, 2)) (hv : (Int8.ofInt z).toInt32 = v) (kk : V G E Y cc nL Q h k n (pc + 2) lv (.int v :: st)) : V G E Y cc nL Q h k n pc lv st := V.pure (fun _ _ _ _ ls hx hb hl w => lv_bipush hx hb hd hv w) kk
theorem v_sipush {z : Int} {v : Int32} (hd : decode cc pc = .ok (.sipush z, 3)) (hv : (Int16.ofInt z).toInt32 = v) (kk : V G E Y cc nL Q h k n (pc + 3) lv (.int v :: st)) : V G E Y cc nL Q h k n pc lv st := V.pure (fun _ _ _ _ ls hx hb hl w => lv_sipush hx hb hd hv w) kk
theorem v_lconst {z : Fin 2} {v : Int64} (hd : decode cc pc = .ok (.lconst z, 1)) (hv : Int64.ofNat (z : Nat) = v) (kk : V G E Y cc nL Q h k n (pc + 1) lv (.long v :: st)) : V G E Y cc nL Q h k n pc lv st := V.pure (fun _ _ _ _ ls hx hb hl w => lv_lconst hx hb hd hv w) kk
theorem v_null (hd : decode cc pc = .ok (.aconst_null, 1)) (kk : V G E Y cc nL Q h k n (pc + 1) lv (.null :: st)) : V G E Y cc nL Q h k n pc lv st := V.pure (fun _ _ _ _ ls hx hb hl w => lv_null hx hb hd w) kk
theorem v_fconst0 (hd : decode cc pc = .ok (.fconst 0, 1)) (kk : V G E Y cc nL Q h k n (pc + 1) lv (.float FP.fconst0 :: st)) : V G E Y cc nL Q h k n pc lv st := V.pure (fun _ _ _ _ ls hx hb hl w => lv_fconst0 hx hb hd w) kk
theorem v_dconst0 (hd : decode cc pc = .ok (.dconst 0, 1)) (kk : V G E Y cc nL Q h k n (pc + 1) lv (.double FP.dconst0 :: st)) : V G E Y cc nL Q h k n pc lv st := V.pure (fun _ _ _ _ ls hx hb hl w => lv_dconst0 hx hb hd w) kk
theorem v_iload_n {j : Fin 4} {i : Nat} {x : Int32} (hd : decode cc pc = .ok (.iload_n j, 1)) (hi : (j : Nat) = i) (hg : lget i lv = some (.int x)) (kk : V G E Y cc nL Q h k n (pc + 1) lv (.int x :: st)) : V G E Y cc nL Q h k n pc lv st := V.pure (fun _ _ _ _ ls hx hb hl w => lv_iload_n hx hb hd hi (hl.1.2.2 _ (lget_mem hg)) w) kk
theorem v_iload {i : Nat} {x : Int32} (hd : decode cc pc = .ok (.iload i, 2)) (hg : lget i lv = some (.int x)) (kk : V G E Y cc nL Q h k n (pc + 2) lv (.int x :: st)) : V G E Y cc nL Q h k n pc lv st := V.pure (fun _ _ _ _ ls hx hb hl w => lv_iload hx hb hd (hl.1.2.2 _ (lget_mem hg)) w) kk
theorem v_aload_n {j : Fin 4} {i : Nat} {x : Nat} (hd : decode cc pc = .ok (.aload_n j, 1)) (hi : (j : Nat) = i) (hg : lget i lv = some (.ref x)) (kk : V G E Y cc nL Q h k n (pc + 1) lv (.ref x :: st)) : V G E Y cc nL Q h k n pc lv st := V.pure (fun _ _ _ _ ls hx hb hl w => lv_aload_n hx hb hd hi (hl.1.2.2 _ (lget_mem hg)) w) kk
theorem v_aload {i : Nat} {x : Nat} (hd : decode cc pc = .ok (.aload i, 2)) (hg : lget i lv = some (.ref x)) (kk : V G E Y cc nL Q h k n (pc + 2) lv (.ref x :: st)) : V G E Y cc nL Q h k n pc lv st := V.pure (fun _ _ _ _ ls hx hb hl w => lv_aload hx hb hd (hl.1.2.2 _ (lget_mem hg)) w) kk
theorem v_qload_n {j : Fin 4} {i : Nat} {r : Option Nat} (hd : decode cc pc = .ok (.aload_n j, 1)) (hi : (j : Nat) = i) (hg : lget i lv = some (va_rf r)) (kk : V G E Y cc nL Q h k n (pc + 1) lv (va_rf r :: st)) : V G E Y cc nL Q h k n pc lv st := V.pure (fun _ _ _ _ ls hx hb hl w => by cases r with
  | none => exact lv_aload_nN hx hb hd hi (hl.1.2.2 _ (lget_mem hg)) w
  | some x => exact lv_aload_n hx hb hd hi (hl.1.2.2 _ (lget_mem hg)) w) kk
theorem v_qload {i : Nat} {r : Option Nat} (hd : decode cc pc = .ok (.aload i, 2)) (hg : lget i lv = some (va_rf r)) (kk : V G E Y cc nL Q h k n (pc + 2) lv (va_rf r :: st)) : V G E Y cc nL Q h k n pc lv st := V.pure (fun _ _ _ _ ls hx hb hl w => by cases r with
  | none => exact lv_aloadN hx hb hd (hl.1.2.2 _ (lget_mem hg)) w
  | some x => exact lv_aload hx hb hd (hl.1.2.2 _ (lget_mem hg)) w) kk
theorem v_nload_n {j : Fin 4} {i : Nat} (hd : decode cc pc = .ok (.aload_n j, 1)) (hi : (j : Nat) = i) (hg : lget i lv = some .null) (kk : V G E Y cc nL Q h k n (pc + 1) lv (.null :: st)) : V G E Y cc nL Q h k n pc lv st := V.pure (fun _ _ _ _ ls hx hb hl w => lv_aload_nN hx hb hd hi (hl.1.2.2 _ (lget_mem hg)) w) kk
theorem v_nload {i : Nat} (hd : decode cc pc = .ok (.aload i, 2)) (hg : lget i lv = some .null) (kk : V G E Y cc nL Q h k n (pc + 2) lv (.null :: st)) : V G E Y cc nL Q h k n pc lv st := V.pure (fun _ _ _ _ ls hx hb hl w => lv_aloadN hx hb hd (hl.1.2.2 _ (lget_mem hg)) w) kk
theorem v_iadd {x y : Int32} (hd : decode cc pc = .ok (.iadd, 1)) (kk : V G E Y cc nL Q h k n (pc + 1) lv (.int (x + y) :: st)) : V G E Y cc nL Q h k n pc lv (.int y :: .int x :: st) := V.pure (fun _ _ _ _ ls hx hb hl w => lv_iadd hx hb hd w) kk
theorem v_isub {x y : Int32} (hd : decode cc pc = .ok (.isub, 1)) (kk : V G E Y cc nL Q h k n (pc + 1) lv (.int (x - y) :: st)) : V G E Y cc nL Q h k n pc lv (.int y :: .int x :: st) := V.pure (fun _ _ _ _ ls hx hb hl w => lv_isub hx hb hd w) kk
theorem v_imul {x y : Int32} (hd : decode cc pc = .ok (.imul, 1)) (kk : V G E Y cc nL Q h k n (pc + 1) lv (.int (x * y) :: st)) : V G E Y cc nL Q h k n pc lv (.int y :: .int x :: st) := V.pure (fun _ _ _ _ ls hx hb hl w => lv_imul hx hb hd w) kk
theorem v_iand {x y : Int32} (hd : decode cc pc = .ok (.iand, 1)) (kk : V G E Y cc nL Q h k n (pc + 1) lv (.int (x &&& y) :: st)) : V G E Y cc nL Q h k n pc lv (.int y :: .int x :: st) := V.pure (fun _ _ _ _ ls hx hb hl w => lv_iand hx hb hd w) kk
theorem v_ior {x y : Int32} (hd : decode cc pc = .ok (.ior, 1)) (kk : V G E Y cc nL Q h k n (pc + 1) lv (.int (x ||| y) :: st)) : V G E Y cc nL Q h k n pc lv (.int y :: .int x :: st) := V.pure (fun _ _ _ _ ls hx hb hl w => lv_ior hx hb hd w) kk
theorem v_ixor {x y : Int32} (hd : decode cc pc = .ok (.ixor, 1)) (kk : V G E Y cc nL Q h k n (pc + 1) lv (.int (x ^^^ y) :: st)) : V G E Y cc nL Q h k n pc lv (.int y :: .int x :: st) := V.pure (fun _ _ _ _ ls hx hb hl w => lv_ixor hx hb hd w) kk
theorem v_idiv {x y : Int32} (hd : decode cc pc = .ok (.idiv, 1)) (hz : ¬ y = 0) (kk : V G E Y cc nL Q h k n (pc + 1) lv (.int (x / y) :: st)) : V G E Y cc nL Q h k n pc lv (.int y :: .int x :: st) := V.pure (fun _ _ _ _ ls hx hb hl w => lv_idiv hx hb hd hz w) kk
theorem v_irem {x y : Int32} (hd : decode cc pc = .ok (.irem, 1)) (hz : ¬ y = 0) (kk : V G E Y cc nL Q h k n (pc + 1) lv (.int (x - x / y * y) :: st)) : V G E Y cc nL Q h k n pc lv (.int y :: .int x :: st) := V.pure (fun _ _ _ _ ls hx hb hl w => lv_irem hx hb hd hz w) kk
theorem v_ineg {x : Int32} (hd : decode cc pc = .ok (.ineg, 1)) (kk : V G E Y cc nL Q h k n (pc + 1) lv (.int (-x) :: st)) : V G E Y cc nL Q h k n pc lv (.int x :: st) := V.pure (fun _ _ _ _ ls hx hb hl w => lv_ineg hx hb hd w) kk
theorem v_ishl {x y : Int32} (hd : decode cc pc = .ok (.ishl, 1)) (kk : V G E Y cc nL Q h k n (pc + 1) lv (.int (x <<< (y &&& 31)) :: st)) : V G E Y cc nL Q h k n pc lv (.int y :: .int x :: st) := V.pure (fun _ _ _ _ ls hx hb hl w => lv_ishl hx hb hd w) kk
theorem v_ishr {x y : Int32} (hd : decode cc pc = .ok (.ishr, 1)) (kk : V G E Y cc nL Q h k n (pc + 1) lv (.int (x >>> (y &&& 31)) :: st)) : V G E Y cc nL Q h k n pc lv (.int y :: .int x :: st) := V.pure (fun _ _ _ _ ls hx hb hl w => lv_ishr hx hb hd w) kk
theorem v_iushr {x y v : Int32} (hd : decode cc pc = .ok (.iushr, 1)) (hv : (x.toUInt32 >>> (y.toUInt32 &&& Int32.toUInt32 31)).toInt32 = v) (kk : V G E Y cc nL Q h k n (pc + 1) lv (.int v :: st)) : V G E Y cc nL Q h k n pc lv (.int y :: .int x :: st) := V.pure (fun _ _ _ _ ls hx hb hl w => lv_iushr hx hb hd hv w) kk
theorem v_i2c {x v : Int32} (hd : decode cc pc = .ok (.i2c, 1)) (hv : (x.toUInt32 % 65536).toInt32 = v) (kk : V G E Y cc nL Q h k n (pc + 1) lv (.int v :: st)) : V G E Y cc nL Q h k n pc lv (.int x :: st) := V.pure (fun _ _ _ _ ls hx hb hl w => lv_i2c hx hb hd hv w) kk
theorem v_i2b {x v : Int32} (hd : decode cc pc = .ok (.i2b, 1)) (hv : x.toInt8.toInt32 = v) (kk : V G E Y cc nL Q h k n (pc + 1) lv (.int v :: st)) : V G E Y cc nL Q h k n pc lv (.int x :: st) := V.pure (fun _ _ _ _ ls hx hb hl w => lv_i2b hx hb hd hv w) kk
theorem v_i2l {x : Int32} {v : Int64} (hd : decode cc pc = .ok (.i2l, 1)) (hv : x.toInt64 = v) (kk : V G E Y cc nL Q h k n (pc + 1) lv (.long v :: st)) : V G E Y cc nL Q h k n pc lv (.int x :: st) := V.pure (fun _ _ _ _ ls hx hb hl w => lv_i2l hx hb hd hv w) kk
theorem v_l2i {x : Int64} {v : Int32} (hd : decode cc pc = .ok (.l2i, 1)) (hv : x.toInt32 = v) (kk : V G E Y cc nL Q h k n (pc + 1) lv (.int v :: st)) : V G E Y cc nL Q h k n pc lv (.long x :: st) := V.pure (fun _ _ _ _ ls hx hb hl w => lv_l2i hx hb hd hv w) kk
theorem v_land {x y : Int64} (hd : decode cc pc = .ok (.land, 1)) (kk : V G E Y cc nL Q h k n (pc + 1) lv (.long (x &&& y) :: st)) : V G E Y cc nL Q h k n pc lv (.long y :: .long x :: st) := V.pure (fun _ _ _ _ ls hx hb hl w => lv_land hx hb hd w) kk
theorem v_lor {x y : Int64} (hd : decode cc pc = .ok (.lor, 1)) (kk : V G E Y cc nL Q h k n (pc + 1) lv (.long (x ||| y) :: st)) : V G E Y cc nL Q h k n pc lv (.long y :: .long x :: st) := V.pure (fun _ _ _ _ ls hx hb hl w => lv_lor hx hb hd w) kk
theorem v_ladd {x y : Int64} (hd : decode cc pc = .ok (.ladd, 1)) (kk : V G E Y cc nL Q h k n (pc + 1) lv (.long (x + y) :: st)) : V G E Y cc nL Q h k n pc lv (.long y :: .long x :: st) := V.pure (fun _ _ _ _ ls hx hb hl w => lv_ladd hx hb hd w) kk
theorem v_lsub {x y : Int64} (hd : decode cc pc = .ok (.lsub, 1)) (kk : V G E Y cc nL Q h k n (pc + 1) lv (.long (x - y) :: st)) : V G E Y cc nL Q h k n pc lv (.long y :: .long x :: st) := V.pure (fun _ _ _ _ ls hx hb hl w => lv_lsub hx hb hd w) kk
theorem v_lmul {x y : Int64} (hd : decode cc pc = .ok (.lmul, 1)) (kk : V G E Y cc nL Q h k n (pc + 1) lv (.long (x * y) :: st)) : V G E Y cc nL Q h k n pc lv (.long y :: .long x :: st) := V.pure (fun _ _ _ _ ls hx hb hl w => lv_lmul hx hb hd w) kk
theorem v_lshl {x v : Int64} {y : Int32} (hd : decode cc pc = .ok (.lshl, 1)) (hv : x <<< (y.toInt64 &&& 63) = v) (kk : V G E Y cc nL Q h k n (pc + 1) lv (.long v :: st)) : V G E Y cc nL Q h k n pc lv (.int y :: .long x :: st) := V.pure (fun _ _ _ _ ls hx hb hl w => lv_lshl hx hb hd hv w) kk
theorem v_lushr {x v : Int64} {y : Int32} (hd : decode cc pc = .ok (.lushr, 1)) (hv : (x.toUInt64 >>> (y.toInt64.toUInt64 &&& Int64.toUInt64 63)).toInt64 = v) (kk : V G E Y cc nL Q h k n (pc + 1) lv (.long v :: st)) : V G E Y cc nL Q h k n pc lv (.int y :: .long x :: st) := V.pure (fun _ _ _ _ ls hx hb hl w => lv_lushr hx hb hd hv w) kk
theorem v_lcmp {x y : Int64} (hd : decode cc pc = .ok (.lcmp, 1)) (kk : V G E Y cc nL Q h k n (pc + 1) lv (.int (lg_cmp x y) :: st)) : V G E Y cc nL Q h k n pc lv (.long y :: .long x :: st) := V.pure (fun _ _ _ _ ls hx hb hl w => W.lcmp hx hb hd w) kk
theorem v_i2f {x : Int32} (hd : decode cc pc = .ok (.i2f, 1)) (kk : V G E Y cc nL Q h k n (pc + 1) lv (.float (FP.i2f x) :: st)) : V G E Y cc nL Q h k n pc lv (.int x :: st) := V.pure (fun _ _ _ _ ls hx hb hl w => lv_i2f hx hb hd w) kk
theorem v_i2d {x : Int32} (hd : decode cc pc = .ok (.i2d, 1)) (kk : V G E Y cc nL Q h k n (pc + 1) lv (.double (FP.i2d x) :: st)) : V G E Y cc nL Q h k n pc lv (.int x :: st) := V.pure (fun _ _ _ _ ls hx hb hl w => lv_i2d hx hb hd w) kk
theorem v_fdiv {x y : UInt32} (hd : decode cc pc = .ok (.fdiv, 1)) (hz : vf_n32 (FP.fdiv x y)) (kk : V G E Y cc nL Q h k n (pc + 1) lv (.float (FP.fdiv x y) :: st)) : V G E Y cc nL Q h k n pc lv (.float y :: .float x :: st) := V.pure (fun _ _ _ _ ls hx hb hl w => lv_fdiv hx hb hd hz w) kk
theorem v_ddiv {x y : UInt64} (hd : decode cc pc = .ok (.ddiv, 1)) (hz : vf_n64 (FP.ddiv x y)) (kk : V G E Y cc nL Q h k n (pc + 1) lv (.double (FP.ddiv x y) :: st)) : V G E Y cc nL Q h k n pc lv (.double y :: .double x :: st) := V.pure (fun _ _ _ _ ls hx hb hl w => lv_ddiv hx hb hd hz w) kk
theorem v_dup {va : Value} (hd : decode cc pc = .ok (.dup, 1)) (hva : va.category = 1) (kk : V G E Y cc nL Q h k n (pc + 1) lv (va :: va :: st)) : V G E Y cc nL Q h k n pc lv (va :: st) := V.pure (fun _ _ _ _ ls hx hb hl w => lv_dup hx hb hd hva w) kk
theorem v_pop {va : Value} (hd : decode cc pc = .ok (.pop, 1)) (hva : va.category = 1) (kk : V G E Y cc nL Q h k n (pc + 1) lv st) : V G E Y cc nL Q h k n pc lv (va :: st) := V.pure (fun _ _ _ _ ls hx hb hl w => lv_pop hx hb hd hva w) kk
theorem v_dup_x1 {va vb : Value} (hd : decode cc pc = .ok (.dup_x1, 1)) (hva : va.category = 1) (hvb : vb.category = 1) (kk : V G E Y cc nL Q h k n (pc + 1) lv (va :: vb :: va :: st)) : V G E Y cc nL Q h k n pc lv (va :: vb :: st) := V.pure (fun _ _ _ _ ls hx hb hl w => lv_dup_x1 hx hb hd hva hvb w) kk
theorem v_dup_x2 {va vb vd : Value} (hd : decode cc pc = .ok (.dup_x2, 1)) (hva : va.category = 1) (hvb : vb.category = 1) (hvd : vd.category = 1) (kk : V G E Y cc nL Q h k n (pc + 1) lv (va :: vb :: vd :: va :: st)) : V G E Y cc nL Q h k n pc lv (va :: vb :: vd :: st) := V.pure (fun _ _ _ _ ls hx hb hl w => lv_dup_x2 hx hb hd hva hvb hvd w) kk
theorem v_dup2 {va vb : Value} (hd : decode cc pc = .ok (.dup2, 1)) (hva : va.category = 1) (hvb : vb.category = 1) (kk : V G E Y cc nL Q h k n (pc + 1) lv (va :: vb :: va :: vb :: st)) : V G E Y cc nL Q h k n pc lv (va :: vb :: st) := V.pure (fun _ _ _ _ ls hx hb hl w => lv_dup2_11 hx hb hd hva hvb w) kk
theorem v_if_eq {x : Int32} {off : Int} (tgt : Nat) (hd : decode cc pc = .ok (.ifCond .eq off, 3)) (ht : (pc : Int) + off = (tgt : Int)) (kt : x = 0 → V G E Y cc nL Q h k n tgt lv st) (kf : ¬ x = 0 → V G E Y cc nL Q h k n (pc + 3) lv st) : V G E Y cc nL Q h k n pc lv (.int x :: st) := fun C H locs cells slots ls a1 a2 a3 a4 a5 a6 => lv_if_eq C.1 C.2.1 hd ht (fun q => kt q C H locs cells slots ls a1 a2 a3 a4 a5 a6) (fun q => kf q C H locs cells slots ls a1 a2 a3 a4 a5 a6)
theorem v_if_ne {x : Int32} {off : Int} (tgt : Nat) (hd : decode cc pc = .ok (.ifCond .ne off, 3)) (ht : (pc : Int) + off = (tgt : Int)) (kt : ¬ x = 0 → V G E Y cc nL Q h k n tgt lv st) (kf : x = 0 → V G E Y cc nL Q h k n (pc + 3) lv st) : V G E Y cc nL Q h k n pc lv (.int x :: st) := fun C H locs cells slots ls a1 a2 a3 a4 a5 a6 => lv_if_ne C.1 C.2.1 hd ht (fun q => kt q C H locs cells slots ls a1 a2 a3 a4 a5 a6) (fun q => kf q C H locs cells slots ls a1 a2 a3 a4 a5 a6)
theorem v_if_lt {x : Int32} {off : Int} (tgt : Nat) (hd : decode cc pc = .ok (.ifCond .lt off, 3)) (ht : (pc : Int) + off = (tgt : Int)) (kt : x < 0 → V G E Y cc nL Q h k n tgt lv st) (kf : ¬ x < 0 → V G E Y cc nL Q h k n (pc + 3) lv st) : V G E Y cc nL Q h k n pc lv (.int x :: st) := fun C H locs cells slots ls a1 a2 a3 a4 a5 a6 => lv_if_lt C.1 C.2.1 hd ht (fun q => kt q C H locs cells slots ls a1 a2 a3 a4 a5 a6) (fun q => kf q C H locs cells slots ls a1 a2 a3 a4 a5 a6)
theorem v_if_ge {x : Int32} {off : Int} (tgt : Nat) (hd : decode cc pc = .ok (.ifCond .ge off, 3)) (ht : (pc : Int) + off = (tgt : Int)) (kt : 0 ≤ x → V G E Y cc nL Q h k n tgt lv st) (kf : ¬ 0 ≤ x → V G E Y cc nL Q h k n (pc + 3) lv st) : V G E Y cc nL Q h k n pc lv (.int x :: st) := fun C H locs cells slots ls a1 a2 a3 a4 a5 a6 => lv_if_ge C.1 C.2.1 hd ht (fun q => kt q C H locs cells slots ls a1 a2 a3 a4 a5 a6) (fun q => kf q C H locs cells slots ls a1 a2 a3 a4 a5 a6)
theorem v_if_gt {x : Int32} {off : Int} (tgt : Nat) (hd : decode cc pc = .ok (.ifCond .gt off, 3)) (ht : (pc : Int) + off = (tgt : Int)) (kt : 0 < x → V G E Y cc nL Q h k n tgt lv st) (kf : ¬ 0 < x → V G E Y cc nL Q h k n (pc + 3) lv st) : V G E Y cc nL Q h k n pc lv (.int x :: st) := fun C H locs cells slots ls a1 a2 a3 a4 a5 a6 => lv_if_gt C.1 C.2.1 hd ht (fun q => kt q C H locs cells slots ls a1 a2 a3 a4 a5 a6) (fun q => kf q C H locs cells slots ls a1 a2 a3 a4 a5 a6)
theorem v_if_le {x : Int32} {off : Int} (tgt : Nat) (hd : decode cc pc = .ok (.ifCond .le off, 3)) (ht : (pc : Int) + off = (tgt : Int)) (kt : x ≤ 0 → V G E Y cc nL Q h k n tgt lv st) (kf : ¬ x ≤ 0 → V G E Y cc nL Q h k n (pc + 3) lv st) : V G E Y cc nL Q h k n pc lv (.int x :: st) := fun C H locs cells slots ls a1 a2 a3 a4 a5 a6 => lv_if_le C.1 C.2.1 hd ht (fun q => kt q C H locs cells slots ls a1 a2 a3 a4 a5 a6) (fun q => kf q C H locs cells slots ls a1 a2 a3 a4 a5 a6)
theorem v_icmp_eq {x y : Int32} {off : Int} (tgt : Nat) (hd : decode cc pc = .ok (.if_icmp .eq off, 3)) (ht : (pc : Int) + off = (tgt : Int)) (kt : x = y → V G E Y cc nL Q h k n tgt lv st) (kf : ¬ x = y → V G E Y cc nL Q h k n (pc + 3) lv st) : V G E Y cc nL Q h k n pc lv (.int y :: .int x :: st) := fun C H locs cells slots ls a1 a2 a3 a4 a5 a6 => lv_icmp_eq C.1 C.2.1 hd ht (fun q => kt q C H locs cells slots ls a1 a2 a3 a4 a5 a6) (fun q => kf q C H locs cells slots ls a1 a2 a3 a4 a5 a6)
theorem v_icmp_ne {x y : Int32} {off : Int} (tgt : Nat) (hd : decode cc pc = .ok (.if_icmp .ne off, 3)) (ht : (pc : Int) + off = (tgt : Int)) (kt : ¬ x = y → V G E Y cc nL Q h k n tgt lv st) (kf : x = y → V G E Y cc nL Q h k n (pc + 3) lv st) : V G E Y cc nL Q h k n pc lv (.int y :: .int x :: st) := fun C H locs cells slots ls a1 a2 a3 a4 a5 a6 => lv_icmp_ne C.1 C.2.1 hd ht (fun q => kt q C H locs cells slots ls a1 a2 a3 a4 a5 a6) (fun q => kf q C H locs cells slots ls a1 a2 a3 a4 a5 a6)
theorem v_icmp_lt {x y : Int32} {off : Int} (tgt : Nat) (hd : decode cc pc = .ok (.if_icmp .lt off, 3)) (ht : (pc : Int) + off = (tgt : Int)) (kt : x < y → V G E Y cc nL Q h k n tgt lv st) (kf : ¬ x < y → V G E Y cc nL Q h k n (pc + 3) lv st) : V G E Y cc nL Q h k n pc lv (.int y :: .int x :: st) := fun C H locs cells slots ls a1 a2 a3 a4 a5 a6 => lv_icmp_lt C.1 C.2.1 hd ht (fun q => kt q C H locs cells slots ls a1 a2 a3 a4 a5 a6) (fun q => kf q C H locs cells slots ls a1 a2 a3 a4 a5 a6)
theorem v_icmp_ge {x y : Int32} {off : Int} (tgt : Nat) (hd : decode cc pc = .ok (.if_icmp .ge off, 3)) (ht : (pc : Int) + off = (tgt : Int)) (kt : y ≤ x → V G E Y cc nL Q h k n tgt lv st) (kf : ¬ y ≤ x → V G E Y cc nL Q h k n (pc + 3) lv st) : V G E Y cc nL Q h k n pc lv (.int y :: .int x :: st) := fun C H locs cells slots ls a1 a2 a3 a4 a5 a6 => lv_icmp_ge C.1 C.2.1 hd ht (fun q => kt q C H locs cells slots ls a1 a2 a3 a4 a5 a6) (fun q => kf q C H locs cells slots ls a1 a2 a3 a4 a5 a6)
theorem v_icmp_gt {x y : Int32} {off : Int} (tgt : Nat) (hd : decode cc pc = .ok (.if_icmp .gt off, 3)) (ht : (pc : Int) + off = (tgt : Int)) (kt : y < x → V G E Y cc nL Q h k n tgt lv st) (kf : ¬ y < x → V G E Y cc nL Q h k n (pc + 3) lv st) : V G E Y cc nL Q h k n pc lv (.int y :: .int x :: st) := fun C H locs cells slots ls a1 a2 a3 a4 a5 a6 => lv_icmp_gt C.1 C.2.1 hd ht (fun q => kt q C H locs cells slots ls a1 a2 a3 a4 a5 a6) (fun q => kf q C H locs cells slots ls a1 a2 a3 a4 a5 a6)
theorem v_icmp_le {x y : Int32} {off : Int} (tgt : Nat) (hd : decode cc pc = .ok (.if_icmp .le off, 3)) (ht : (pc : Int) + off = (tgt : Int)) (kt : x ≤ y → V G E Y cc nL Q h k n tgt lv st) (kf : ¬ x ≤ y → V G E Y cc nL Q h k n (pc + 3) lv st) : V G E Y cc nL Q h k n pc lv (.int y :: .int x :: st) := fun C H locs cells slots ls a1 a2 a3 a4 a5 a6 => lv_icmp_le C.1 C.2.1 hd ht (fun q => kt q C H locs cells slots ls a1 a2 a3 a4 a5 a6) (fun q => kf q C H locs cells slots ls a1 a2 a3 a4 a5 a6)
theorem v_acmp_eq {x y : Option Nat} {off : Int} (tgt : Nat) (hd : decode cc pc = .ok (.if_acmp .eq off, 3)) (ht : (pc : Int) + off = (tgt : Int)) (kt : x = y → V G E Y cc nL Q h k n tgt lv st) (kf : ¬ x = y → V G E Y cc nL Q h k n (pc + 3) lv st) : V G E Y cc nL Q h k n pc lv (va_rf y :: va_rf x :: st) := fun C H locs cells slots ls a1 a2 a3 a4 a5 a6 => lv_acmp_eq C.1 C.2.1 hd ht (fun q => kt q C H locs cells slots ls a1 a2 a3 a4 a5 a6) (fun q => kf q C H locs cells slots ls a1 a2 a3 a4 a5 a6)
theorem v_acmp_ne {x y : Option Nat} {off : Int} (tgt : Nat) (hd : decode cc pc = .ok (.if_acmp .ne off, 3)) (ht : (pc : Int) + off = (tgt : Int)) (kt : ¬ x = y → V G E Y cc nL Q h k n tgt lv st) (kf : x = y → V G E Y cc nL Q h k n (pc + 3) lv st) : V G E Y cc nL Q h k n pc lv (va_rf y :: va_rf x :: st) := fun C H locs cells slots ls a1 a2 a3 a4 a5 a6 => lv_acmp_ne C.1 C.2.1 hd ht (fun q => kt q C H locs cells slots ls a1 a2 a3 a4 a5 a6) (fun q => kf q C H locs cells slots ls a1 a2 a3 a4 a5 a6)
theorem v_ifnull {r : Option Nat} {off : Int} (tgt : Nat) (hd : decode cc pc = .ok (.ifnull off, 3)) (ht : (pc : Int) + off = (tgt : Int)) (kt : r = none → V G E Y cc nL Q h k n tgt lv st) (kf : ∀ x : Nat, r = some x → V G E Y cc nL Q h k n (pc + 3) lv st) : V G E Y cc nL Q h k n pc lv (va_rf r :: st) := fun C H locs cells slots ls a1 a2 a3 a4 a5 a6 => by
  cases r with
  | none => exact lv_ifnullN C.1 C.2.1 hd ht (kt rfl C H locs cells slots ls a1 a2 a3 a4 a5 a6)
  | some x => exact lv_ifnull C.1 C.2.1 hd (kf x rfl C H locs cells slots ls a1 a2 a3 a4 a5 a6)
theorem v_ifnonnull {r : Option Nat} {off : Int} (tgt : Nat) (hd : decode cc pc = .ok (.ifnonnull off, 3)) (ht : (pc : Int) + off = (tgt : Int)) (kt : ∀ x : Nat, r = some x → V G E Y cc nL Q h k n tgt lv st) (kf : r = none → V G E Y cc nL Q h k n (pc + 3) lv st) : V G E Y cc nL Q h k n pc lv (va_rf r :: st) := fun C H locs cells slots ls a1 a2 a3 a4 a5 a6 => by
  cases r with
  | none => exact lv_ifnonnullN C.1 C.2.1 hd (kf rfl C H locs cells slots ls a1 a2 a3 a4 a5 a6)
  | some x => exact lv_ifnonnull C.1 C.2.1 hd ht (kt x rfl C H locs cells slots ls a1 a2 a3 a4 a5 a6)
theorem v_goto {off : Int} (tgt : Nat) (hd : decode cc pc = .ok (.goto off, 3)) (ht : (pc : Int) + off = (tgt : Int)) (kk : V G E Y cc nL Q h k n tgt lv st) : V G E Y cc nL Q h k n pc lv st := V.pure (fun _ _ _ _ _ hx hb _ w => lv_goto hx hb hd ht w) kk
theorem v_lookup {dflt : Int} {ps : Array (Int × Int)} {len : Nat} {x : Int32} {off : Int} (tgt : Nat) (hd : decode cc pc = .ok (.lookupswitch dflt ps, len)) (hp : (ps.toList.zip (ps.toList.drop 1)).all (fun (a, next) => a.1 < next.1) = true) (ho : Op.lookupswitch.offset ps.toList dflt x.toInt = off) (ht : (pc : Int) + off = (tgt : Int)) (kk : V G E Y cc nL Q h k n tgt lv st) : V G E Y cc nL Q h k n pc lv (.int x :: st) := V.pure (fun _ _ _ _ _ hx hb _ w => lv_lookup hx hb hd hp ho ht w) kk
theorem v_tableOut {dflt lo hi : Int} {offs : Array Int} {len : Nat} {x : Int32} (tgt : Nat) (hd : decode cc pc = .ok (.tableswitch dflt lo hi offs, len)) (h1 : x.toInt < lo ∨ hi < x.toInt) (ht : (pc : Int) + dflt = (tgt : Int)) (kk : V G E Y cc nL Q h k n tgt lv st) : V G E Y cc nL Q h k n pc lv (.int x :: st) := V.pure (fun _ _ _ _ _ hx hb _ w => lv_tableOut hx hb hd h1 ht w) kk
theorem v_tableIn {dflt lo hi : Int} {offs : Array Int} {len : Nat} {x : Int32} {off : Int} (tgt : Nat) (hd : decode cc pc = .ok (.tableswitch dflt lo hi offs, len)) (h1 : ¬ x.toInt < lo) (h2 : ¬ hi < x.toInt) (ho : offs[(x.toInt - lo).toNat]? = some off) (ht : (pc : Int) + off = (tgt : Int)) (kk : V G E Y cc nL Q h k n tgt lv st) : V G E Y cc nL Q h k n pc lv (.int x :: st) := V.pure (fun _ _ _ _ _ hx hb _ w => lv_tableIn hx hb hd h1 h2 ho ht w) kk
theorem v_istore_n {j : Fin 4} {i : Nat} {x : Int32} {lv' : List (Nat × Value)} (hd : decode cc pc = .ok (.istore_n j, 1)) (hi : (j : Nat) = i) (hi2 : i < nL) (ho : lord lv = true) (hl : lset i (.int x) lv = lv') (kk : V G E Y cc nL Q h k n (pc + 1) lv' st) : V G E Y cc nL Q h k n pc lv ((.int x) :: st) := fun C H locs cells slots ls a1 a2 a3 a4 a5 a6 => lv_istore_n C.1 C.2.1 hd hi a6.1 hi2 rfl fun ls' h' => kk C H locs cells slots ls' a1 a2 a3 a4 a5 (by rw [← hl]; exact lvh_set a6.2 rfl ho h')
theorem v_istore {i : Nat} {x : Int32} {lv' : List (Nat × Value)} (hd : decode cc pc = .ok (.istore i, 2)) (hi2 : i < nL) (ho : lord lv = true) (hl : lset i (.int x) lv = lv') (kk : V G E Y cc nL Q h k n (pc + 2) lv' st) : V G E Y cc nL Q h k n pc lv ((.int x) :: st) := fun C H locs cells slots ls a1 a2 a3 a4 a5 a6 => lv_istore C.1 C.2.1 hd a6.1 hi2 rfl fun ls' h' => kk C H locs cells slots ls' a1 a2 a3 a4 a5 (by rw [← hl]; exact lvh_set a6.2 rfl ho h')
theorem v_astore_n {j : Fin 4} {i : Nat} {x : Nat} {lv' : List (Nat × Value)} (hd : decode cc pc = .ok (.astore_n j, 1)) (hi : (j : Nat) = i) (hi2 : i < nL) (ho : lord lv = true) (hl : lset i (.ref x) lv = lv') (kk : V G E Y cc nL Q h k n (pc + 1) lv' st) : V G E Y cc nL Q h k n pc lv ((.ref x) :: st) := fun C H locs cells slots ls a1 a2 a3 a4 a5 a6 => lv_astore_n C.1 C.2.1 hd hi a6.1 hi2 rfl fun ls' h' => kk C H locs cells slots ls' a1 a2 a3 a4 a5 (by rw [← hl]; exact lvh_set a6.2 rfl ho h')
theorem v_astore {i : Nat} {x : Nat} {lv' : List (Nat × Value)} (hd : decode cc pc = .ok (.astore i, 2)) (hi2 : i < nL) (ho : lord lv = true) (hl : lset i (.ref x) lv = lv') (kk : V G E Y cc nL Q h k n (pc + 2) lv' st) : V G E Y cc nL Q h k n pc lv ((.ref x) :: st) := fun C H locs cells slots ls a1 a2 a3 a4 a5 a6 => lv_astore C.1 C.2.1 hd a6.1 hi2 rfl fun ls' h' => kk C H locs cells slots ls' a1 a2 a3 a4 a5 (by rw [← hl]; exact lvh_set a6.2 rfl ho h')
theorem v_nstore_n {j : Fin 4} {i : Nat} {lv' : List (Nat × Value)} (hd : decode cc pc = .ok (.astore_n j, 1)) (hi : (j : Nat) = i) (hi2 : i < nL) (ho : lord lv = true) (hl : lset i .null lv = lv') (kk : V G E Y cc nL Q h k n (pc + 1) lv' st) : V G E Y cc nL Q h k n pc lv (.null :: st) := fun C H locs cells slots ls a1 a2 a3 a4 a5 a6 => lv_astore_nN C.1 C.2.1 hd hi a6.1 hi2 rfl fun ls' h' => kk C H locs cells slots ls' a1 a2 a3 a4 a5 (by rw [← hl]; exact lvh_set a6.2 rfl ho h')
theorem v_nstore {i : Nat} {lv' : List (Nat × Value)} (hd : decode cc pc = .ok (.astore i, 2)) (hi2 : i < nL) (ho : lord lv = true) (hl : lset i .null lv = lv') (kk : V G E Y cc nL Q h k n (pc + 2) lv' st) : V G E Y cc nL Q h k n pc lv (.null :: st) := fun C H locs cells slots ls a1 a2 a3 a4 a5 a6 => lv_astoreN C.1 C.2.1 hd a6.1 hi2 rfl fun ls' h' => kk C H locs cells slots ls' a1 a2 a3 a4 a5 (by rw [← hl]; exact lvh_set a6.2 rfl ho h')
theorem v_qstore_n {j : Fin 4} {i : Nat} {r : Option Nat} {lv' : List (Nat × Value)} (hd : decode cc pc = .ok (.astore_n j, 1)) (hi : (j : Nat) = i) (hi2 : i < nL) (ho : lord lv = true) (hl : lset i (va_rf r) lv = lv') (kk : V G E Y cc nL Q h k n (pc + 1) lv' st) : V G E Y cc nL Q h k n pc lv (va_rf r :: st) := by
  cases r with
  | none => exact v_nstore_n hd hi hi2 ho hl kk
  | some x => exact v_astore_n hd hi hi2 ho hl kk
theorem v_qstore {i : Nat} {r : Option Nat} {lv' : List (Nat × Value)} (hd : decode cc pc = .ok (.astore i, 2)) (hi2 : i < nL) (ho : lord lv = true) (hl : lset i (va_rf r) lv = lv') (kk : V G E Y cc nL Q h k n (pc + 2) lv' st) : V G E Y cc nL Q h k n pc lv (va_rf r :: st) := by
  cases r with
  | none => exact v_nstore hd hi2 ho hl kk
  | some x => exact v_astore hd hi2 ho hl kk
theorem v_iinc {i : Nat} {z : Int} {x v : Int32} {lv' : List (Nat × Value)} (hd : decode cc pc = .ok (.iinc i z, 3)) (hg : lget i lv = some (.int x)) (hv : x + Int32.ofInt z = v) (hi2 : i < nL) (ho : lord lv = true) (hl : lset i (.int v) lv = lv') (kk : V G E Y cc nL Q h k n (pc + 3) lv' st) : V G E Y cc nL Q h k n pc lv st := fun C H locs cells slots ls a1 a2 a3 a4 a5 a6 => by
  obtain ⟨j, hj⟩ := List.getElem?_of_mem (lget_mem hg)
  exact lv_iinc C.1 C.2.1 hd a6.1 hj hv hi2 rfl fun ls' h' => kk C H locs cells slots ls' a1 a2 a3 a4 a5 (by rw [← hl]; exact lvh_set a6.2 rfl ho h')
end VV
