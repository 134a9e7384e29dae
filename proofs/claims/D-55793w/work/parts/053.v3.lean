/-! LAYER V, third part: rows that read and write the abstract heap -/
set_option maxRecDepth 100000
section VH
variable {G : Gt} {E : Ev} {Y : Yt} {cc : ByteArray} {nL : Nat} {Q : State → Prop} {h : Hp} {k n pc : Nat} {lv : List (Nat × Value)} {st : List Value}
theorem Rep.o {H : Heap} (R : Rep G h H) {a : Nat} {w : Bool} {ci : Nat} {fs : List Value} (hh : h a = some (w, .inr (ci, fs))) : ∃ (r : vw_C) (cell : Cell), CL[ci]? = some r ∧ H[a]? = some cell ∧ cell.cls = (g_D G).1 ci ∧ cell.vm.isStatics = false ∧ cell.vm ≠ .unknown ∧ ∀ (k : Nat) (v : Value), fs[k]? = some v → cell.slots[(g_D G).2 ci k]? = some v := at1_o (R.2.2 _ _ hh)
theorem Rep.a {H : Heap} (R : Rep G h H) (C : Cx G E Y cc nL) {a : Nat} {w : Bool} {t : Nat} {x : vp_A} (hh : h a = some (w, .inl (t, x))) : ∃ cell : Cell, H[a]? = some cell ∧ (e_s E).isArrayOf cell (AT t) ∧ cell.vm ≠ .unknown ∧ cell.slots.size = x.1 ∧ ∀ j : Nat, j < x.1 → cell.slots[j]? = some (vp_el x j) := at1_a C (R.2.2 _ _ hh)
/-- a field's place: found by the class that declares it -/
def fsame (G : Gt) (E : Ev) (ref o f d : String) : Prop := ∀ x, (e_s E).fieldFound? o f d = some x → (e_s E).fieldFound? ref f d = some x
theorem fsame.of (C : Cx G E Y cc nL) {ref o f d : String} (hs : ref = o ∨ Cond.sameField ref o f d ∈ lw_all) : fsame G E ref o f d := by
  rcases hs with e | hs
  · subst e; exact fun x h => h
  · exact fun x h => u_same (C.w hs) x h
theorem v_getf {D ref : String} {T : u_T} {N index ci a : Nat} {w : Bool} {fs : List Value} {v : Value} (kf : Nat) (hd : decode cc pc = .ok (.getfield index, 3)) (hl : Cond.fieldLink (y_n Y).cls index ref (T kf).2.1 (T kf).2.2.1 ∈ lw_all) (hc : CL[ci]? = some (D, T, N)) (hin : ∀ w ∈ u_ws D T N, w ∈ lw_all) (hk : kf < N) (hs : ref = (T kf).1 ∨ Cond.sameField ref (T kf).1 (T kf).2.1 (T kf).2.2.1 ∈ lw_all) (hh : h a = some (w, .inr (ci, fs))) (hv : fs[kf]? = some v)
    (kk : V G E Y cc nL Q h k n (pc + 3) lv (v :: st)) : V G E Y cc nL Q h k n pc lv (.ref a :: st) := by
  intro C H locs cells slots ls a1 a2 a3 a4 a5 a6
  obtain ⟨r, cell, g1, g2, g3, g4, g5, g6⟩ := a1.o hh
  cases hc.symm.trans g1
  obtain ⟨hS, hfc, kC, hkC, hkind⟩ := C.K.1 ci _ hc
  obtain ⟨cf, kf0, fi, f, hi, hsl⟩ := hS kf hk
  exact W.getf C.1 C.2.1 C.own (C.w hl) (fsame.of C hs _ hi) (u_facts hfc hkC (u_lays C.ts hin hk) hi).1 g2 g5 (v := v) (by rw [hsl]; exact g6 kf v hv) rfl rfl hd (kk C H locs cells slots ls a1 a2 a3 a4 a5 a6)
theorem v_getfN {D ref host : String} {T : u_T} {N index ci a : Nat} {w : Bool} {fs : List Value} {v : Value} (kf : Nat) (hd : decode cc pc = .ok (.getfield index, 3)) (hl : Cond.fieldLinkNest (y_n Y).cls index ref (T kf).2.1 (T kf).2.2.1 host ∈ lw_tbl) (hc : CL[ci]? = some (D, T, N)) (hin : ∀ w ∈ u_ws D T N, w ∈ lw_all) (hk : kf < N) (hs : ref = (T kf).1 ∨ Cond.sameField ref (T kf).1 (T kf).2.1 (T kf).2.2.1 ∈ lw_all) (hh : h a = some (w, .inr (ci, fs))) (hv : fs[kf]? = some v)
    (kk : V G E Y cc nL Q h k n (pc + 3) lv (v :: st)) : V G E Y cc nL Q h k n pc lv (.ref a :: st) := by
  intro C H locs cells slots ls a1 a2 a3 a4 a5 a6
  obtain ⟨r, cell, g1, g2, g3, g4, g5, g6⟩ := a1.o hh
  cases hc.symm.trans g1
  obtain ⟨hS, hfc, kC, hkC, hkind⟩ := C.K.1 ci _ hc
  obtain ⟨cf, kf0, fi, f, hi, hsl⟩ := hS kf hk
  exact va_Wgetf C.1 C.2.1 C.own (va_Nw.use rfl (va_Nw.warmF C.warm (C.nw hl rfl))) (fsame.of C hs _ hi) (u_facts hfc hkC (u_lays C.ts hin hk) hi).1 g2 g5 (v := v) (by rw [hsl]; exact g6 kf v hv) rfl rfl hd (kk C H locs cells slots ls a1 a2 a3 a4 a5 a6)
/-- what a store into a field needs of its class -/
theorem v_apart (C : Cx G E Y cc nL) {D : String} {T : u_T} {N ci : Nat} (ty0 : Nat → FieldType) (hty : ∀ k, k < N → parseFieldDescriptor (T k).2.2.1 = some (ty0 k)) (hnm : ∀ a, a < N → ∀ b, b < N → a ≠ b → (T a).2.1 ≠ (T b).2.1) (hin : ∀ w ∈ u_ws D T N, w ∈ lw_all) (hc : CL[ci]? = some (D, T, N)) : ∀ x y, x < N → y < N → x ≠ y → (g_D G).2 ci x ≠ (g_D G).2 ci y := va_apart (own := D) C.ts hin ty0 hty hnm C.K hc
theorem at1_put {a ci kf N : Nat} {D : String} {T : u_T} {fs : List Value} {v : Value} {H1 : Heap} {cell : Cell} (hB : g_B G ≤ a) (hc : CL[ci]? = some (D, T, N)) (q2 : cell.cls = (g_D G).1 ci) (q3 : cell.vm = .none) (q4 : ∀ k, k < N → cell.slots[(g_D G).2 ci k]? = some (vp_V fs k)) (hlen : fs.length = N) (hap : ∀ x y, x < N → y < N → x ≠ y → (g_D G).2 ci x ≠ (g_D G).2 ci y) (hk : kf < N) (e1 : H1[a]? = some (cell.setSlot ((g_D G).2 ci kf) v)) : at1 G a (true, .inr (ci, fs.set kf v)) H1 := by
  refine ⟨hB, ⟨_, hc, t_OB.to (V := updV (vp_V fs) kf v) ⟨_, e1, q2, q3, t_set q4 hap hk v⟩ (fun j _ => vp_updV_set (by rw [hlen]; exact hk) v j)⟩, _, hc, by rw [List.length_set]; exact hlen⟩
theorem v_putf {D ref : String} {T : u_T} {N index ci a : Nat} {fs : List Value} {v : Value} {ty : FieldType} (kf : Nat) (hd : decode cc pc = .ok (.putfield index, 3)) (hl : Cond.fieldLink (y_n Y).cls index ref (T kf).2.1 (T kf).2.2.1 ∈ lw_all) (hc : CL[ci]? = some (D, T, N)) (hin : ∀ w ∈ u_ws D T N, w ∈ lw_all) (ty0 : Nat → FieldType) (hty : ∀ k, k < N → parseFieldDescriptor (T k).2.2.1 = some (ty0 k)) (hnm : ∀ a, a < N → ∀ b, b < N → a ≠ b → (T a).2.1 ≠ (T b).2.1) (hk : kf < N) (hsm : ref = (T kf).1 ∨ Cond.sameField ref (T kf).1 (T kf).2.1 (T kf).2.2.1 ∈ lw_all) (hfin : (T kf).2.2.2 = false) (hpd : parseFieldDescriptor (T kf).2.2.1 = some ty) (hn : narrow ty v = v) (hfit : fits ty v = true)
    (hh : h a = some (true, .inr (ci, fs))) (kk : V G E Y cc nL Q (hs h a (true, .inr (ci, fs.set kf v))) k n (pc + 3) lv st) : V G E Y cc nL Q h k n pc lv (v :: .ref a :: st) := by
  intro C H locs cells slots ls a1 a2 a3 a4 a5 a6
  obtain ⟨hB, ⟨r, h1, cell, q1, q2, q3, q4⟩, r', h2, hlen⟩ := a1.2.2 _ _ hh
  cases hc.symm.trans h1
  cases hc.symm.trans h2
  have hap := v_apart C ty0 hty hnm hin hc
  obtain ⟨hS, hfc, kC, hkC, hkind⟩ := C.K.1 ci _ hc
  obtain ⟨cf, kf0, fi, f, hi, hsl⟩ := hS kf hk
  have hlay := C.w (hin _ (u_in_lay hk))
  unfold u_lay at hlay
  rw [if_neg (by rw [hfin]; decide)] at hlay
  have hst := (u_facts hfc hkC (u_lays C.ts hin hk) hi).1
  have h6 := u_store hfc hkC hkind hlay hi hpd hn hfit
  refine W.putK C.1 C.2.1 (f := f) ⟨C.own, C.w hl, ⟨_, _, _, fsame.of C hsm _ hi⟩, hst⟩ (by rw [q2]; exact h6) q1 q3 (by rw [hsl]; exact k2_hasslot (q4 kf hk)) rfl rfl hd fun H' e1 e2 e3 => ?_
  rw [hsl] at e1 ⊢
  exact kk C H' _ cells slots ls (a1.set hB e2 (at1_put hB hc q2 q3 q4 hlen hap hk e1) e3) (by rw [e2]; exact a2) (fun q hq => by
    rcases List.mem_append.mp hq with z | z
    · exact a3 q z
    · rw [List.mem_singleton] at z; rw [z]; exact hB) a4 a5 a6
theorem v_putfN {D ref host : String} {T : u_T} {N index ci a : Nat} {fs : List Value} {v : Value} {ty : FieldType} (kf : Nat) (hd : decode cc pc = .ok (.putfield index, 3)) (hl : Cond.fieldLinkNest (y_n Y).cls index ref (T kf).2.1 (T kf).2.2.1 host ∈ lw_tbl) (hc : CL[ci]? = some (D, T, N)) (hin : ∀ w ∈ u_ws D T N, w ∈ lw_all) (ty0 : Nat → FieldType) (hty : ∀ k, k < N → parseFieldDescriptor (T k).2.2.1 = some (ty0 k)) (hnm : ∀ a, a < N → ∀ b, b < N → a ≠ b → (T a).2.1 ≠ (T b).2.1) (hk : kf < N) (hsm : ref = (T kf).1 ∨ Cond.sameField ref (T kf).1 (T kf).2.1 (T kf).2.2.1 ∈ lw_all) (hfin : (T kf).2.2.2 = false) (hpd : parseFieldDescriptor (T kf).2.2.1 = some ty) (hn : narrow ty v = v) (hfit : fits ty v = true)
    (hh : h a = some (true, .inr (ci, fs))) (kk : V G E Y cc nL Q (hs h a (true, .inr (ci, fs.set kf v))) k n (pc + 3) lv st) : V G E Y cc nL Q h k n pc lv (v :: .ref a :: st) := by
  intro C H locs cells slots ls a1 a2 a3 a4 a5 a6
  obtain ⟨hB, ⟨r, h1, cell, q1, q2, q3, q4⟩, r', h2, hlen⟩ := a1.2.2 _ _ hh
  cases hc.symm.trans h1
  cases hc.symm.trans h2
  have hap := v_apart C ty0 hty hnm hin hc
  obtain ⟨hS, hfc, kC, hkC, hkind⟩ := C.K.1 ci _ hc
  obtain ⟨cf, kf0, fi, f, hi, hsl⟩ := hS kf hk
  have hlay := C.w (hin _ (u_in_lay hk))
  unfold u_lay at hlay
  rw [if_neg (by rw [hfin]; decide)] at hlay
  have hst := (u_facts hfc hkC (u_lays C.ts hin hk) hi).1
  have h6 := u_store hfc hkC hkind hlay hi hpd hn hfit
  refine va_WputK C.1 C.2.1 (f := f) C.own (va_Nw.use rfl (va_Nw.warmF C.warm (C.nw hl rfl))) (fsame.of C hsm _ hi) hst (by rw [q2]; exact h6) q1 q3 (by rw [hsl]; exact k2_hasslot (q4 kf hk)) rfl rfl hd fun H' e1 e2 e3 => ?_
  rw [hsl] at e1 ⊢
  exact kk C H' _ cells slots ls (a1.set hB e2 (at1_put hB hc q2 q3 q4 hlen hap hk e1) e3) (by rw [e2]; exact a2) (fun q hq => by
    rcases List.mem_append.mp hq with z | z
    · exact a3 q z
    · rw [List.mem_singleton] at z; rw [z]; exact hB) a4 a5 a6
theorem v_putfF {D ref : String} {T : u_T} {N index ci a : Nat} {fs : List Value} {v : Value} {ty : FieldType} (kf : Nat) (hd : decode cc pc = .ok (.putfield index, 3)) (hl : Cond.fieldLink (y_n Y).cls index ref (T kf).2.1 (T kf).2.2.1 ∈ lw_all) (hc : CL[ci]? = some (D, T, N)) (hin : ∀ w ∈ u_ws D T N, w ∈ lw_all) (ty0 : Nat → FieldType) (hty : ∀ k, k < N → parseFieldDescriptor (T k).2.2.1 = some (ty0 k)) (hnm : ∀ a, a < N → ∀ b, b < N → a ≠ b → (T a).2.1 ≠ (T b).2.1) (hk : kf < N) (hsm : ref = (T kf).1 ∨ Cond.sameField ref (T kf).1 (T kf).2.1 (T kf).2.2.1 ∈ lw_all) (hfin : (T kf).2.2.2 = true) (hinit : (y_n Y).name = "<init>") (hdecl : (T kf).1 = (y_n Y).cls) (hpd : parseFieldDescriptor (T kf).2.2.1 = some ty) (hn : narrow ty v = v) (hfit : fits ty v = true)
    (hh : h a = some (true, .inr (ci, fs))) (kk : V G E Y cc nL Q (hs h a (true, .inr (ci, fs.set kf v))) k n (pc + 3) lv st) : V G E Y cc nL Q h k n pc lv (v :: .ref a :: st) := by
  intro C H locs cells slots ls a1 a2 a3 a4 a5 a6
  obtain ⟨hB, ⟨r, h1, cell, q1, q2, q3, q4⟩, r', h2, hlen⟩ := a1.2.2 _ _ hh
  cases hc.symm.trans h1
  cases hc.symm.trans h2
  have hap := v_apart C ty0 hty hnm hin hc
  obtain ⟨hS, hfc, kC, hkC, hkind⟩ := C.K.1 ci _ hc
  obtain ⟨cf, kf0, fi, f, hi, hsl⟩ := hS kf hk
  have hlay := C.w (hin _ (u_in_lay hk))
  unfold u_lay at hlay
  rw [if_pos hfin] at hlay
  have hst := (u_facts hfc hkC (u_lays C.ts hin hk) hi).1
  have hcf : (e_m E).cls = cf := by
    obtain ⟨_, _, c', _, _, _, -, -, hf', -, -, -, hown2, -⟩ := Cond.laysFinal_spec hlay
    have e1 : c' = cf := by have := hi.symm.trans hf'; simp at this; exact this.1.symm
    rw [hdecl] at hown2
    rw [← e1]; exact Option.some.inj (C.own.symm.trans hown2)
  have h6 := u_fits hfc hkC hkind (Or.inr hlay) hi hpd hn hfit
  refine W.putFinK C.1 C.2.1 C.own (C.w hl) (fsame.of C hsm _ hi) hst hcf (by rw [C.2.2.2.2.2.2.2.1]; exact hinit) (by rw [q2]; exact h6) q1 q3 (by rw [hsl]; exact k2_hasslot (q4 kf hk)) rfl rfl hd fun H' e1 e2 e3 => ?_
  rw [hsl] at e1 ⊢
  exact kk C H' _ cells slots ls (a1.set hB e2 (at1_put hB hc q2 q3 q4 hlen hap hk e1) e3) (by rw [e2]; exact a2) (fun q hq => by
    rcases List.mem_append.mp hq with z | z
    · exact a3 q z
    · rw [List.mem_singleton] at z; rw [z]; exact hB) a4 a5 a6
theorem v_gets {D f d ref : String} {index : Nat} {v : Value} (hd : decode cc pc = .ok (.getstatic index, 3)) (hl : Cond.fieldLink (y_n Y).cls index ref f d ∈ lw_all) (hq : (D, f, d, v) ∈ statT G) (hsm : ref = D ∨ Cond.sameField ref D f d ∈ lw_all)
    (kk : V G E Y cc nL Q h k n (pc + 3) lv (v :: st)) : V G E Y cc nL Q h k n pc lv st := by
  intro C H locs cells slots ls a1 a2 a3 a4 a5 a6
  obtain ⟨cf, kf, fi, fd, a, cell, h1, h2, h3, h4, h5, h6, h7, h8⟩ := va_Z.moved C.warm.alike (C.2.2.2.2.2.2.2.2.2.2.2.2.2.1 _ hq)
  exact W.gets C.1 C.2.1 C.own (C.w hl) (fsame.of C hsm _ h1) h2 h3 h4 (by rw [a1.2.1 a (Nat.not_le.mp h8)]; exact h5) (fun e => by rw [e] at h6; cases h6) h7 rfl hd (kk C H locs cells slots ls a1 a2 a3 a4 a5 a6)
theorem v_new {D : String} {T : u_T} {N index ci : Nat} {fs : List Value} (hd : decode cc pc = .ok (.new index, 3)) (hcl : Cond.classLink (y_n Y).cls index D ∈ lw_all) (hins : Cond.instantiable D N ∈ lw_all) (hini : Cond.initialized D ∈ lw_all) (hc : CL[ci]? = some (D, T, N)) (hin : ∀ w ∈ u_ws D T N, w ∈ lw_all) (ty : Nat → FieldType) (hty : ∀ k, k < N → parseFieldDescriptor (T k).2.2.1 = some (ty k)) (hfs : (List.range N).map (fun j => defaultValue (ty j)) = fs)
    (kk : ∀ a : Nat, h a = none → V G E Y cc nL Q (hs h a (true, .inr (ci, fs))) k n (pc + 3) lv (.ref a :: st)) : V G E Y cc nL Q h (k + 1) (n + N) pc lv st := by
  intro C H locs cells slots ls a1 a2 a3 a4 a5 a6
  have hKn := C.K.1 ci _ hc
  have hlen : fs.length = N := by rw [← hfs]; simp
  refine W.newcK C.1 C.2.1 C.own (C.w hcl) (C.w hins) (C.w hini) rfl hd (by omega) (by omega) hKn.2.1 rfl fun H1 kC hkC e1 z1 o1 => ?_
  refine kk H.size a1.fresh C H1 locs (cells + 1) (slots + N) ls (a1.push z1 ⟨a1.1, ⟨_, hc, (u_born ty C.ts hin hKn hkC e1 hty).to fun j hj => ?_⟩, _, hc, hlen⟩ o1) (by omega) a3 (by omega) (by omega) a6
  rw [← hfs]
  simp [vp_V, List.getD_eq_getElem?_getD, hj]
theorem va_RA.nm {U : State} {cA : ClassId} {ty : FieldType} (h : va_RA U cA ty) : U.vm.findClass ("[" ++ ty.toString) = some cA := by
  cases ty with
  | object D => obtain ⟨_, _, -, -, -, h2⟩ := h; exact h2
  | _ => exact h
theorem cls_arr (C : Cx G E Y cc nL) {t : Nat} (ht : t < 6) {cA : ClassId} (hf : (e_s E).vm.findClass ("[" ++ (AT t).toString) = some cA) : cA = g_A G t := Option.some.inj (hf.symm.trans (C.K.2 t _ (tysG_at ht)).2.nm)
theorem v_newa {atype : ArrayType} {t N : Nat} {z : Int32} {x : vp_A} (hd : decode cc pc = .ok (.newarray atype, 2)) (ht : t < 6) (hat : newarray.typeOf atype = AT t) (hw : Cond.arrayClass (AT t) ∈ lw_all) (hx : ∀ cA : ClassId, vp_cell cA x = arrV cA N (fun _ => defaultValue (AT t))) (hn : z.toInt = (N : Int)) (hN : N * componentBytes (AT t) ≤ 536870912)
    (kk : ∀ a : Nat, h a = none → V G E Y cc nL Q (hs h a (true, .inl (t, x))) k n (pc + 2) lv (.ref a :: st)) : V G E Y cc nL Q h (k + 1) (n + N) pc lv (.int z :: st) := by
  intro C H locs cells slots ls a1 a2 a3 a4 a5 a6
  refine va_newaK C.1 C.2.1 (by rw [hat]; exact C.w hw) rfl hd rfl (by rw [Int32.lt_iff_toInt_lt, hn, Int32.toInt_zero]; omega) (show z.toInt.toNat = N by rw [hn]; rfl) (by rw [hat]; exact hN) (by omega) (by omega) rfl fun H1 cA e1 z1 o1 hAr hNm => ?_
  rw [hat] at hNm e1
  have hcA := cls_arr C ht hNm
  refine kk H.size a1.fresh C H1 locs (cells + 1) (slots + N) ls (a1.push z1 ⟨a1.1, ?_, ht⟩ o1) (by omega) a3 (by omega) (by omega) a6
  show H1[H.size]? = some (vp_cell (g_A G t) x)
  rw [hx, ← hcA]
  exact e1
theorem v_newq {t N index : Nat} {D : String} {z : Int32} (hd : decode cc pc = .ok (.anewarray index, 3)) (ht : t < 6) (hat : AT t = .object D) (hcl : Cond.classLink (y_n Y).cls index D ∈ lw_all) (hov : Cond.arrayOver (.object D) ∈ lw_tbl) (hn : z.toInt = (N : Int)) (hN : N * 4 ≤ 536870912)
    (kk : ∀ a : Nat, h a = none → V G E Y cc nL Q (hs h a (true, .inl (t, N, .inr (.inr (.inr (.inr (fun _ => none))))))) k n (pc + 3) lv (.ref a :: st)) : V G E Y cc nL Q h (k + 1) (n + N) pc lv (.int z :: st) := by
  intro C H locs cells slots ls a1 a2 a3 a4 a5 a6
  have hz : z.toNatClampNeg = N := show z.toInt.toNat = N by rw [hn]; rfl
  have hz0 : ¬ z < 0 := by rw [Int32.lt_iff_toInt_lt, hn, Int32.toInt_zero]; omega
  have hover : va_AO D (e_s E) := by
    obtain ⟨A0, h0⟩ := C.2.2.2.2.2.2.2.2.2.2.2.1
    exact va_AO.moved C.warm.alike (va_AO.of (h0 _ hov))
  subst hz
  refine W.anew C.1 C.2.1 C.own (C.w hcl) (va_AO.use hover) rfl hd rfl hz0 hN (by omega) (by omega) fun cA kA comp f1 f2 f3 f4 => ?_
  generalize hH1 : H.push ({ cls := cA, slots := Array.replicate z.toNatClampNeg .null, vm := .none } : Cell) = H1
  have z1 : H1.size = H.size + 1 := by rw [← hH1, Array.size_push]
  have e1 : H1[H.size]? = some (arrV cA z.toNatClampNeg (fun _ => .null)) := by rw [← hH1, Array.getElem?_push_size, ← arrV_new]
  have o1 : ∀ q : Nat, q < H.size → H1[q]? = H[q]? := fun q hq => by rw [← hH1, Array.getElem?_push, if_neg (Nat.ne_of_lt hq)]
  have hcA : cA = g_A G t := cls_arr C ht (by rw [hat]; exact f1)
  refine kk H.size a1.fresh C H1 locs (cells + 1) (slots + z.toNatClampNeg) ls (a1.push z1 ⟨a1.1, ?_, ht⟩ o1) (by omega) a3 (by omega) (by omega) a6
  show H1[H.size]? = some (vp_cell (g_A G t) _)
  rw [vp_cell_q, ← hcA]
  exact e1
theorem v_alen {a t : Nat} {w : Bool} {x : vp_A} {v : Int32} (hd : decode cc pc = .ok (.arraylength, 1)) (hh : h a = some (w, .inl (t, x))) (hv : Int32.ofNat x.1 = v) (kk : V G E Y cc nL Q h k n (pc + 1) lv (.int v :: st)) : V G E Y cc nL Q h k n pc lv (.ref a :: st) := by
  intro C H locs cells slots ls a1 a2 a3 a4 a5 a6
  subst hv
  obtain ⟨cell, g1, g2, g3, g4, g5⟩ := a1.a C hh
  exact W.alen (n := Int32.ofNat x.1) C.1 C.2.1 g1 g2 (by rw [g4] <;> rfl) rfl rfl hd (kk C H locs cells slots ls a1 a2 a3 a4 a5 a6)
theorem v_iald {a N : Nat} {w : Bool} {f : Nat → Int32} {i : Int32} (hd : decode cc pc = .ok (.iaload, 1)) (hh : h a = some (w, .inl (0, N, .inl f))) (hi : vp_in i N) (kk : V G E Y cc nL Q h k n (pc + 1) lv (.int (f i.toNatClampNeg) :: st)) : V G E Y cc nL Q h k n pc lv (.int i :: .ref a :: st) := by
  intro C H locs cells slots ls a1 a2 a3 a4 a5 a6
  obtain ⟨cell, g1, g2, g3, g4, g5⟩ := a1.a C hh
  have hlt : i.toNatClampNeg < N := Nat.not_le.mp fun q => hi (Or.inr q)
  exact W.iald (v := .int (f i.toNatClampNeg)) C.1 C.2.1 g1 g2 g3 (by rw [g4]; exact hi) (g5 _ hlt) rfl rfl hd (kk C H locs cells slots ls a1 a2 a3 a4 a5 a6)
theorem v_bald {a N : Nat} {w : Bool} {f : Nat → Int32} {i : Int32} (hd : decode cc pc = .ok (.baload, 1)) (hh : h a = some (w, .inl (1, N, .inl f))) (hi : vp_in i N) (kk : V G E Y cc nL Q h k n (pc + 1) lv (.int (f i.toNatClampNeg) :: st)) : V G E Y cc nL Q h k n pc lv (.int i :: .ref a :: st) := by
  intro C H locs cells slots ls a1 a2 a3 a4 a5 a6
  obtain ⟨cell, g1, g2, g3, g4, g5⟩ := a1.a C hh
  have hlt : i.toNatClampNeg < N := Nat.not_le.mp fun q => hi (Or.inr q)
  exact W.bald (v := .int (f i.toNatClampNeg)) C.1 C.2.1 g1 g2 g3 (by rw [g4]; exact hi) (g5 _ hlt) rfl rfl hd (kk C H locs cells slots ls a1 a2 a3 a4 a5 a6)
theorem v_lald {a N : Nat} {w : Bool} {f : Nat → Int64} {i : Int32} (hd : decode cc pc = .ok (.laload, 1)) (hh : h a = some (w, .inl (2, N, .inr (.inl f)))) (hi : vp_in i N) (kk : V G E Y cc nL Q h k n (pc + 1) lv (.long (f i.toNatClampNeg) :: st)) : V G E Y cc nL Q h k n pc lv (.int i :: .ref a :: st) := by
  intro C H locs cells slots ls a1 a2 a3 a4 a5 a6
  obtain ⟨cell, g1, g2, g3, g4, g5⟩ := a1.a C hh
  have hlt : i.toNatClampNeg < N := Nat.not_le.mp fun q => hi (Or.inr q)
  exact W.lald (v := .long (f i.toNatClampNeg)) C.1 C.2.1 g1 g2 g3 (by rw [g4]; exact hi) (g5 _ hlt) rfl rfl hd (kk C H locs cells slots ls a1 a2 a3 a4 a5 a6)
theorem v_aald {a t N : Nat} {w : Bool} {f : Nat → Option Nat} {i : Int32} (hd : decode cc pc = .ok (.aaload, 1)) (ht : (AT t).isReference = true) (hh : h a = some (w, .inl (t, N, .inr (.inr (.inr (.inr f)))))) (hi : vp_in i N) (kk : V G E Y cc nL Q h k n (pc + 1) lv (va_rf (f i.toNatClampNeg) :: st)) : V G E Y cc nL Q h k n pc lv (.int i :: .ref a :: st) := by
  intro C H locs cells slots ls a1 a2 a3 a4 a5 a6
  obtain ⟨cell, g1, g2, g3, g4, g5⟩ := a1.a C hh
  have hlt : i.toNatClampNeg < N := Nat.not_le.mp fun q => hi (Or.inr q)
  exact W.aald (v := va_rf (f i.toNatClampNeg)) C.1 C.2.1 g1 g2 ht g3 (by rw [g4]; exact hi) (g5 _ hlt) rfl rfl hd (kk C H locs cells slots ls a1 a2 a3 a4 a5 a6)
theorem Rep.arrT {H : Heap} (R : Rep G h H) (C : Cx G E Y cc nL) {a t : Nat} {x : vp_A} (hh : h a = some (true, .inl (t, x))) : g_B G ≤ a ∧ H[a]? = some (vp_cell (g_A G t) x) ∧ t < 6 ∧ ArrOfT (e_s E) (g_A G t) (AT t) := by
  obtain ⟨h1, h2, h3⟩ := R.2.2 _ _ hh
  exact ⟨h1, h2, h3, (C.K.2 _ _ (tysG_at h3)).1⟩
theorem locs_in {locs : List Loc} {a i : Nat} (a3 : ∀ q ∈ locs, g_B G ≤ q.base) (hB : g_B G ≤ a) : ∀ q ∈ locs ++ [(⟨a, i⟩ : Loc)], g_B G ≤ q.base := fun q hq => by
  rcases List.mem_append.mp hq with z | z
  · exact a3 q z
  · rw [List.mem_singleton] at z; rw [z]; exact hB
theorem v_iast {a N : Nat} {f : Nat → Int32} {i : Int32} {x : Int32} (hd : decode cc pc = .ok (.iastore, 1)) (hh : h a = some (true, .inl (0, N, .inl f))) (hi : vp_in i N) (kk : V G E Y cc nL Q (hs h a (true, .inl (0, N, .inl (upd f i.toNatClampNeg x)))) k n (pc + 1) lv st) : V G E Y cc nL Q h k n pc lv (.int x :: .int i :: .ref a :: st) := by
  intro C H locs cells slots ls a1 a2 a3 a4 a5 a6
  obtain ⟨hB, g1, g2, g3⟩ := a1.arrT C hh
  refine W.iast C.1 C.2.1 g1 (g3 N _) (fun q => by cases q) (by show ¬ (i < 0 ∨ (arrV _ _ _).slots.size ≤ _); rw [arrV_size]; exact hi) rfl rfl hd fun H1 e z oq => ?_
  refine kk C H1 _ cells slots ls (a1.set hB z ⟨hB, ?_, g2⟩ oq) (by rw [z]; exact a2) (locs_in a3 hB) a4 a5 a6
  show H1[a]? = some (vp_cell _ _)
  rw [e, vp_cell_i, vp_cell_i, arrV_store]
  congr 2
  funext q
  by_cases hq : q = i.toNatClampNeg
  · subst hq
    simp [updV, upd, vp_updL, va_nm_byte]
  · simp [updV, upd, vp_updL, hq]
theorem v_bast {a N : Nat} {f : Nat → Int32} {i : Int32} {x : Int32} (hd : decode cc pc = .ok (.bastore, 1)) (hh : h a = some (true, .inl (1, N, .inl f))) (hi : vp_in i N) (kk : V G E Y cc nL Q (hs h a (true, .inl (1, N, .inl (upd f i.toNatClampNeg (vp_nar .byte x))))) k n (pc + 1) lv st) : V G E Y cc nL Q h k n pc lv (.int x :: .int i :: .ref a :: st) := by
  intro C H locs cells slots ls a1 a2 a3 a4 a5 a6
  obtain ⟨hB, g1, g2, g3⟩ := a1.arrT C hh
  refine W.bast C.1 C.2.1 g1 (g3 N _) (fun q => by cases q) (by show ¬ (i < 0 ∨ (arrV _ _ _).slots.size ≤ _); rw [arrV_size]; exact hi) rfl rfl hd fun H1 e z oq => ?_
  refine kk C H1 _ cells slots ls (a1.set hB z ⟨hB, ?_, g2⟩ oq) (by rw [z]; exact a2) (locs_in a3 hB) a4 a5 a6
  show H1[a]? = some (vp_cell _ _)
  rw [e, vp_cell_i, vp_cell_i, arrV_store]
  congr 2
  funext q
  by_cases hq : q = i.toNatClampNeg
  · subst hq
    simp [updV, upd, vp_nar, narrow]
  · simp [updV, upd, vp_updL, hq]
theorem v_last {a N : Nat} {f : Nat → Int64} {i : Int32} {x : Int64} (hd : decode cc pc = .ok (.lastore, 1)) (hh : h a = some (true, .inl (2, N, .inr (.inl f)))) (hi : vp_in i N) (kk : V G E Y cc nL Q (hs h a (true, .inl (2, N, .inr (.inl (vp_updL f i.toNatClampNeg x))))) k n (pc + 1) lv st) : V G E Y cc nL Q h k n pc lv (.long x :: .int i :: .ref a :: st) := by
  intro C H locs cells slots ls a1 a2 a3 a4 a5 a6
  obtain ⟨hB, g1, g2, g3⟩ := a1.arrT C hh
  refine W.last C.1 C.2.1 g1 (g3 N _) (fun q => by cases q) (by show ¬ (i < 0 ∨ (arrV _ _ _).slots.size ≤ _); rw [arrV_size]; exact hi) rfl rfl hd fun H1 e z oq => ?_
  refine kk C H1 _ cells slots ls (a1.set hB z ⟨hB, ?_, g2⟩ oq) (by rw [z]; exact a2) (locs_in a3 hB) a4 a5 a6
  show H1[a]? = some (vp_cell _ _)
  rw [e, vp_cell_l, vp_cell_l, arrV_store]
  congr 2
  funext q
  by_cases hq : q = i.toNatClampNeg
  · subst hq
    simp [updV, upd, vp_updL, va_nm_byte]
  · simp [updV, upd, vp_updL, hq]
theorem v_aastN {a t N : Nat} {D : String} {f : Nat → Option Nat} {i : Int32} (hd : decode cc pc = .ok (.aastore, 1)) (hat : AT t = .object D) (hh : h a = some (true, .inl (t, N, .inr (.inr (.inr (.inr f)))))) (hi : vp_in i N) (kk : V G E Y cc nL Q (hs h a (true, .inl (t, N, .inr (.inr (.inr (.inr (va_up f i.toNatClampNeg none))))))) k n (pc + 1) lv st) : V G E Y cc nL Q h k n pc lv (.null :: .int i :: .ref a :: st) := by
  intro C H locs cells slots ls a1 a2 a3 a4 a5 a6
  obtain ⟨hB, g1, g2, g3⟩ := a1.arrT C hh
  rw [hat] at g3
  refine va_WaastN (C := D) C.1 C.2.1 g1 (g3 N _) (fun h => by cases h) (by show ¬ (i < 0 ∨ (arrV _ _ _).slots.size ≤ _); rw [arrV_size]; exact hi) rfl rfl hd fun H1 e z oq => ?_
  refine kk C H1 _ cells slots ls (a1.set hB z ⟨hB, ?_, g2⟩ oq) (by rw [z]; exact a2) (locs_in a3 hB) a4 a5 a6
  show H1[a]? = some (vp_cell _ _)
  rw [e, vp_cell_q, vp_cell_q, arrV_store]
  congr 2
  funext q
  by_cases hq : q = i.toNatClampNeg
  · subst hq
    simp [updV, va_up, va_rf]
  · simp [updV, va_up, hq]
theorem v_aast {a t N b ci : Nat} {w : Bool} {fs : List Value} {D : String} {T : u_T} {M : Nat} {D0 : String} {f : Nat → Option Nat} {i : Int32} (hd : decode cc pc = .ok (.aastore, 1)) (hat : AT t = .object D) (hh : h a = some (true, .inl (t, N, .inr (.inr (.inr (.inr f)))))) (hi : vp_in i N) (hb : h b = some (w, .inr (ci, fs))) (hc : CL[ci]? = some (D0, T, M)) (hca : D0 = D ∨ Cond.castable D0 D ∈ lw_tbl) (kk : V G E Y cc nL Q (hs h a (true, .inl (t, N, .inr (.inr (.inr (.inr (va_up f i.toNatClampNeg (some b)))))))) k n (pc + 1) lv st) : V G E Y cc nL Q h k n pc lv (.ref b :: .int i :: .ref a :: st) := by
  intro C H locs cells slots ls a1 a2 a3 a4 a5 a6
  obtain ⟨hB, g1, g2, g3⟩ := a1.arrT C hh
  obtain ⟨r, cell, r1, r2, r3, r4, r5, -⟩ := a1.o hb
  cases hc.symm.trans r1
  have hlt : i.toNatClampNeg < N := Nat.not_le.mp fun q => hi (Or.inr q)
  have h0 : ¬ i < 0 := fun q => hi (Or.inl q)
  have hcls := (C.K.1 ci _ hc).2
  have hRA := (C.K.2 t _ (tysG_at g2)).2
  rw [hat] at hRA
  obtain ⟨kA, comp, k1, k2, k3, -⟩ := hRA
  obtain ⟨kE, hkE, -⟩ := Vm.findClass_spec k3
  obtain ⟨kC, hkC, -⟩ := hcls.2
  have hasg : (e_s E).vm.assignable ((g_D G).1 ci) comp = true := by
    rcases hca with e | hca
    · subst e
      cases hcls.1.symm.trans k3
      exact va_asg _ _
    · obtain ⟨c0, t1, f1, f2, f3⟩ := Cond.castable_spec (va_Nw.use (A := (e_a E)) rfl (va_Nw.warmC C.warm (C.nw hca rfl)))
      cases hcls.1.symm.trans f1
      cases k3.symm.trans f2
      exact f3
  refine W.aast C.1 C.2.1 g1 (fun q h => by cases h) (fun h => by cases h) k1 k2 rfl hkE ⟨h0, by show _ < (arrV _ _ _).slots.size; rw [arrV_size]; exact hlt⟩ r2 (fun q h => by rw [h] at r4; cases r4) (by rw [r3]; exact hkC) (by rw [r3]; exact hasg) rfl rfl hd fun H1 e z oq => ?_
  refine kk C H1 _ cells slots ls (a1.set hB z ⟨hB, ?_, g2⟩ oq) (by rw [z]; exact a2) (locs_in a3 hB) a4 a5 a6
  show H1[a]? = some (vp_cell _ _)
  rw [e, vp_cell_q, vp_cell_q, arrV_store]
  congr 2
  funext q
  by_cases hq : q = i.toNatClampNeg
  · subst hq
    simp [updV, va_up, va_rf]
  · simp [updV, va_up, hq]
theorem Rep.recv {H : Heap} (R : Rep G h H) (C : Cx G E Y cc nL) {a : Nat} {w : Bool} {ci : Nat} {fs : List Value} (hh : h a = some (w, .inr (ci, fs))) {D : String} {T : u_T} {N : Nat} (hc : CL[ci]? = some (D, T, N)) : ∃ cell : Cell, H[a]? = some cell ∧ cell.vm.isStatics = false ∧ (e_s E).vm.findClass D = some cell.cls := by
  obtain ⟨r, cell, r1, r2, r3, r4, r5, -⟩ := R.o hh
  cases hc.symm.trans r1
  exact ⟨cell, r2, r4, by rw [r3]; exact (C.K.1 ci _ hc).2.1⟩
theorem v_cast {a ci index : Nat} {w : Bool} {fs : List Value} {D nm : String} {T : u_T} {N : Nat} (hd : decode cc pc = .ok (.checkcast index, 3)) (hl : Cond.classLink (y_n Y).cls index nm ∈ lw_all) (hh : h a = some (w, .inr (ci, fs))) (hc : CL[ci]? = some (D, T, N)) (hca : Cond.castable D nm ∈ lw_tbl) (kk : V G E Y cc nL Q h k n (pc + 3) lv (.ref a :: st)) : V G E Y cc nL Q h k n pc lv (.ref a :: st) := by
  intro C H locs cells slots ls a1 a2 a3 a4 a5 a6
  exact va_castY C.1 C.2.1 C.own (C.w hl) (va_Nw.warmC C.warm (C.nw hca rfl)) (a1.recv C hh hc) hd (kk C H locs cells slots ls a1 a2 a3 a4 a5 a6)
theorem v_castS {a ci index : Nat} {w : Bool} {fs : List Value} {D : String} {T : u_T} {N : Nat} (hd : decode cc pc = .ok (.checkcast index, 3)) (hl : Cond.classLink (y_n Y).cls index D ∈ lw_all) (hh : h a = some (w, .inr (ci, fs))) (hc : CL[ci]? = some (D, T, N)) (kk : V G E Y cc nL Q h k n (pc + 3) lv (.ref a :: st)) : V G E Y cc nL Q h k n pc lv (.ref a :: st) := by
  intro C H locs cells slots ls a1 a2 a3 a4 a5 a6
  exact va_castE C.1 C.2.1 C.own (C.w hl) (a1.recv C hh hc) hd (kk C H locs cells slots ls a1 a2 a3 a4 a5 a6)
theorem v_castN {index : Nat} (hd : decode cc pc = .ok (.checkcast index, 3)) (kk : V G E Y cc nL Q h k n (pc + 3) lv (.null :: st)) : V G E Y cc nL Q h k n pc lv (.null :: st) := V.pure (fun _ _ _ _ _ hx hb _ w => lv_castN hx hb hd w) kk
theorem v_instS {a ci index : Nat} {w : Bool} {fs : List Value} {D : String} {T : u_T} {N : Nat} (hd : decode cc pc = .ok (.instanceof index, 3)) (hl : Cond.classLink (y_n Y).cls index D ∈ lw_all) (hh : h a = some (w, .inr (ci, fs))) (hc : CL[ci]? = some (D, T, N)) (kk : V G E Y cc nL Q h k n (pc + 3) lv (.int 1 :: st)) : V G E Y cc nL Q h k n pc lv (.ref a :: st) := by
  intro C H locs cells slots ls a1 a2 a3 a4 a5 a6
  exact va_instE C.1 C.2.1 C.own (C.w hl) (a1.recv C hh hc) hd (kk C H locs cells slots ls a1 a2 a3 a4 a5 a6)
theorem v_instNo {a ci index : Nat} {w : Bool} {fs : List Value} {D nm : String} {T : u_T} {N : Nat} (hd : decode cc pc = .ok (.instanceof index, 3)) (hl : Cond.classLink (y_n Y).cls index nm ∈ lw_all) (hh : h a = some (w, .inr (ci, fs))) (hc : CL[ci]? = some (D, T, N)) (hnc : (D, nm) ∈ ncT) (kk : V G E Y cc nL Q h k n (pc + 3) lv (.int 0 :: st)) : V G E Y cc nL Q h k n pc lv (.ref a :: st) := by
  intro C H locs cells slots ls a1 a2 a3 a4 a5 a6
  exact va_instNo C.1 C.2.1 C.own (C.w hl) (va_Nc.moved C.warm.alike (C.2.2.2.2.2.2.2.2.2.2.2.2.2.2.2 _ hnc)) (a1.recv C hh hc) hd (kk C H locs cells slots ls a1 a2 a3 a4 a5 a6)
theorem v_ldcS {index i : Nat} {tx : String} (hd : decode cc pc = .ok (.ldc index, 2)) (hq : ((y_n Y).cls, index, tx, i) ∈ strT) (kk : V G E Y cc nL Q h k n (pc + 2) lv (.ref (g_k G i) :: st)) : V G E Y cc nL Q h k n pc lv st := by
  intro C H locs cells slots ls a1 a2 a3 a4 a5 a6
  exact va_ldcS C.1 C.2.1 C.own (vk_R.warm C.warm (C.2.2.2.2.2.2.2.2.2.2.2.2.2.2.1 _ hq)) hd (kk C H locs cells slots ls a1 a2 a3 a4 a5 a6)
theorem v_ldc {index : Nat} {v : Int32} (hd : decode cc pc = .ok (.ldc index, 2)) (hw : Cond.constant (y_n Y).cls index v ∈ lw_all) (kk : V G E Y cc nL Q h k n (pc + 2) lv (.int v :: st)) : V G E Y cc nL Q h k n pc lv st := by
  intro C H locs cells slots ls a1 a2 a3 a4 a5 a6
  exact lv_ldc C.1 C.2.1 C.own (C.w hw) hd (kk C H locs cells slots ls a1 a2 a3 a4 a5 a6)
theorem v_ldcf {index : Nat} {v : UInt32} (hd : decode cc pc = .ok (.ldc index, 2)) (hw : Cond.constantFloat (y_n Y).cls index v ∈ lw_all) (kk : V G E Y cc nL Q h k n (pc + 2) lv (.float v :: st)) : V G E Y cc nL Q h k n pc lv st := by
  intro C H locs cells slots ls a1 a2 a3 a4 a5 a6
  exact lv_ldcf C.1 C.2.1 C.own (C.w hw) hd (kk C H locs cells slots ls a1 a2 a3 a4 a5 a6)
theorem v_ldc2 {index : Nat} {v : Int64} (hd : decode cc pc = .ok (.ldc2_w index, 3)) (hw : Cond.constantLong (y_n Y).cls index v ∈ lw_all) (kk : V G E Y cc nL Q h k n (pc + 3) lv (.long v :: st)) : V G E Y cc nL Q h k n pc lv st := by
  intro C H locs cells slots ls a1 a2 a3 a4 a5 a6
  exact lv_ldc2 C.1 C.2.1 C.own (C.w hw) hd (kk C H locs cells slots ls a1 a2 a3 a4 a5 a6)
theorem v_objInit {index a : Nat} (hd : decode cc pc = .ok (.invokespecial index, 3)) (hl : Cond.methodLink (y_n Y).cls index Lib.objectInit ∈ lw_all) (hi : Cond.instanceMethod Lib.objectInit ∈ lw_all) (hc : Cond.code Lib.objectInit ⟨#[0xb1]⟩ 1 none ∈ lw_all) (hst : (st.map fun v => v.category).sum ≤ 8) (hf : 1 ≤ y_f Y) (ho : 20 ≤ y_o Y) (kk : V G E Y cc nL Q h k n (pc + 3) lv st) : V G E Y cc nL Q h k n pc lv (.ref a :: st) := by
  intro C H locs cells slots ls a1 a2 a3 a4 a5 a6
  have hR1 : (e_R E).frames = y_f Y := C.2.2.2.2.2.2.2.2.2.1
  have hR2 : (e_R E).locals = y_o Y := C.2.2.2.2.2.2.2.2.2.2.1
  refine W.objInit C.1 C.2.1 C.own (C.w hl) (C.w hi) (C.w hc) rfl (by rw [C.2.2.1]; exact a6.1.1) rfl hd (by rw [hR1]; exact hf) (by rw [hR2]; show 2 * 0 + _ + 12 ≤ _; omega) (kk C H locs cells slots ls a1 a2 a3 a4 a5 a6)
end VH
