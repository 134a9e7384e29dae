/-! LAYER V, fourth part: entry, ends, calls, exceptions -/
set_option maxRecDepth 100000
theorem ac_nil : ∀ v ∈ ([] : List Value), v.category = 1 := fun _ h => nomatch h
theorem ac_c {v : Value} {l : List Value} (h : v.category = 1) (t : ∀ w ∈ l, w.category = 1) : ∀ w ∈ v :: l, w.category = 1 := fun w hw => (List.mem_cons.mp hw).elim (fun e => by rw [e]; exact h) (t w)
def larg : Nat → List Value → List (Nat × Value)
  | _, [] => []
  | i, v :: l => (i, v) :: larg (i + 1) l
theorem larg_eq : ∀ (l : List Value) (i : Nat), (∀ v ∈ l, v.category = 1) → lv_args i l = larg i l
  | [], _, _ => rfl
  | v :: l, i, h => by
    have hv := h v List.mem_cons_self
    unfold lv_args larg
    rw [if_neg (by rw [hv]; decide), larg_eq l (i + 1) (fun w hw => h w (List.mem_cons_of_mem _ hw))]
theorem lg_len : ∀ (l : List Value), (∀ v ∈ l, v.category = 1) → (lg_sl l).length = l.length
  | [], _ => rfl
  | v :: l, h => by
    have hv := h v List.mem_cons_self
    have ih := lg_len l (fun w hw => h w (List.mem_cons_of_mem _ hw))
    unfold lg_sl at ih ⊢
    rw [List.flatMap_cons, if_neg (by rw [hv]; decide), List.length_append, ih]
    simp; omega
theorem larg_cat : ∀ (l : List Value) (i : Nat), (∀ v ∈ l, v.category = 1) → ∀ q ∈ larg i l, q.2.category = 1
  | [], _, _, _, h => nomatch h
  | v :: l, i, h, q, hq => by
    rcases List.mem_cons.mp hq with e | e
    · rw [e]; exact h v List.mem_cons_self
    · exact larg_cat l (i + 1) (fun w hw => h w (List.mem_cons_of_mem _ hw)) q e
theorem cat_all {st : List Value} (h : ∀ v ∈ st, v.category = 1) (hl : st.length ≤ 8) : (st.map fun v => v.category).sum ≤ 8 := by
  have key : ∀ l : List Value, (∀ v ∈ l, v.category = 1) → (l.map fun v => v.category).sum = l.length := by
    intro l
    induction l with
    | nil => intro _; rfl
    | cons v l ih =>
      intro h
      simp only [List.map_cons, List.sum_cons, List.length_cons]
      rw [h v List.mem_cons_self, ih (fun w hw => h w (List.mem_cons_of_mem _ hw))]
      omega
  rw [key st h]; exact hl
section VE
variable {G : Gt} {E : Ev} {Y : Yt} {cc : ByteArray} {nL : Nat} {Q : State → Prop} {h : Hp} {k n pc : Nat} {lv : List (Nat × Value)} {st : List Value} {P : Option Value → Hp → Prop} {X : Nat → Nat → Hp → Prop}
theorem Cx.fr (C : Cx G E Y cc nL) : (e_R E).frames = y_f Y := C.2.2.2.2.2.2.2.2.2.1
theorem Cx.lo (C : Cx G E Y cc nL) : (e_R E).locals = y_o Y := C.2.2.2.2.2.2.2.2.2.2.1
theorem Cx.ret (C : Cx G E Y cc nL) : (e_t E).sig.returnType = y_r Y := C.2.2.2.2.2.1
theorem Cx.lock (C : Cx G E Y cc nL) : (e_t E).locks = false := C.2.2.2.2.2.2.1
theorem Cx.tab (C : Cx G E Y cc nL) : (e_c E).exceptionTable.toList = tableOf (y_h Y) := C.2.2.2.2.2.2.2.2.1
theorem mm_of {mc ms : Nat} {args : List Value} (hG : Base G) (hy : plainFor (y_n Y) = true) (hh0 : y_h Y = []) (hcat : ∀ v ∈ args, v.category = 1) (hlen : args.length ≤ nL)
    (body : ∀ E : Ev, (e_R E).cells = mc → (e_R E).slots = ms → V G E Y cc nL (QM G E P X) h mc ms 0 (larg 0 args) []) : MM G Y cc nL mc ms args h P X := by
  intro l
  have hws : wsY Y cc nL = ws_ (y_n Y) cc nL (y_r Y) := by unfold wsY; rw [hh0]
  rw [hws]
  refine vx_ofWF (cc := cc) (maxL := nL) (ret := y_r Y) hy rfl ?_
  intro p e s m args' below meth c s₁ B hml htb hv
  obtain ⟨rfl, hR, hW⟩ := hv
  have hl := lv_entry args (n := nL) (by rw [lg_len args hcat]; exact hlen)
  rw [lg_entry_eq]
  rw [larg_eq args 0 hcat] at hl
  have ht : c.exceptionTable.toList = tableOf (y_h Y) := by
    rw [hh0]
    cases e9 : c.exceptionTable.toList with
    | nil => rfl
    | cons x l => exact absurd (htb x (by rw [e9]; exact List.mem_cons_self)) id
  exact body (p, l, e, (headSpec (ws_ (y_n Y) cc nL (y_r Y)) (rmY Y mc ms)).room, s, m, args.toArray, below, meth, c) rfl rfl ⟨B.exec, B.bytes, hml, findClass_of_methodNamed B.named, hW, B.returns, B.notSynchronized, (name_of_methodNamed B.named B.method).1, ht, rfl, rfl, hG⟩
    s.heap [] 0 0 _ hR (Nat.le_refl _) (fun _ h => nomatch h) (Nat.le_of_eq (Nat.zero_add _)) (Nat.le_of_eq (Nat.zero_add _)) ⟨hl, larg_cat args 0 hcat⟩
theorem mm_ofH {mc ms : Nat} {args : List Value} (hG : Base G) (hy : plainName (y_n Y).cls = true) (hh0 : wsY Y cc nL = wsW_ (y_n Y) cc nL (y_r Y) (y_h Y)) (hcat : ∀ v ∈ args, v.category = 1) (hlen : args.length ≤ nL)
    (body : ∀ E : Ev, (e_R E).cells = mc → (e_R E).slots = ms → V G E Y cc nL (QM G E P X) h mc ms 0 (larg 0 args) []) : MM G Y cc nL mc ms args h P X := by
  intro l
  rw [hh0]
  refine vx_ofWH (cc := cc) (maxL := nL) (ret := y_r Y) (hh := y_h Y) hy rfl ?_
  intro p e s m args' below meth c s₁ B hml hv
  obtain ⟨rfl, hR, hW⟩ := hv
  have hl := lv_entry args (n := nL) (by rw [lg_len args hcat]; exact hlen)
  rw [lg_entry_eq]
  rw [larg_eq args 0 hcat] at hl
  have ht : c.exceptionTable.toList = tableOf (y_h Y) := vx_table (x := y_n Y) B (atoms_spec (ws := wsW_ (y_n Y) cc nL (y_r Y) (y_h Y)) B.pre _ List.mem_cons_self)
  exact body (p, l, e, (headSpec (wsW_ (y_n Y) cc nL (y_r Y) (y_h Y)) (rmY Y mc ms)).room, s, m, args.toArray, below, meth, c) rfl rfl ⟨B.exec, B.bytes, hml, findClass_of_methodNamed B.named, hW, B.returns, B.notSynchronized, (name_of_methodNamed B.named B.method).1, ht, rfl, rfl, hG⟩
    s.heap [] 0 0 _ hR (Nat.le_refl _) (fun _ h => nomatch h) (Nat.le_of_eq (Nat.zero_add _)) (Nat.le_of_eq (Nat.zero_add _)) ⟨hl, larg_cat args 0 hcat⟩

theorem v_iret {x : Int32} (hd : decode cc pc = .ok (.ireturn, 1)) (hr : y_r Y = some .int) (kk : P (some (.int x)) h) : V G E Y cc nL (QM G E P X) h k n pc lv [(.int x)] := by
  intro C H locs cells slots ls a1 a2 a3 a4 a5 a6
  exact W.widen (k := (e_R E).cells) (n := (e_R E).slots) (by omega) (by omega) (vx_ret (W.iret C.1 C.2.1 (C.ret.trans hr) (fun t ht hW => ⟨⟨_, h, rfl, kk, by rw [ht]; exact a1⟩, by rw [ht]; exact a2⟩) a3 hd C.lock))
theorem v_zret {x : Int32} {ty : FieldType} (hd : decode cc pc = .ok (.ireturn, 1)) (hr : y_r Y = some ty) (hn : narrow ty (.int x) = .int x) (kk : P (some (.int x)) h) : V G E Y cc nL (QM G E P X) h k n pc lv [(.int x)] := by
  intro C H locs cells slots ls a1 a2 a3 a4 a5 a6
  exact W.widen (k := (e_R E).cells) (n := (e_R E).slots) (by omega) (by omega) (vx_ret (W.zret C.1 C.2.1 (C.ret.trans hr) hn (fun t ht hW => ⟨⟨_, h, rfl, kk, by rw [ht]; exact a1⟩, by rw [ht]; exact a2⟩) a3 hd C.lock))
theorem v_fret {x : UInt32} (hd : decode cc pc = .ok (.freturn, 1)) (hr : y_r Y = some .float) (kk : P (some (.float x)) h) : V G E Y cc nL (QM G E P X) h k n pc lv [(.float x)] := by
  intro C H locs cells slots ls a1 a2 a3 a4 a5 a6
  exact W.widen (k := (e_R E).cells) (n := (e_R E).slots) (by omega) (by omega) (vx_ret (W.fret C.1 C.2.1 (C.ret.trans hr) (fun t ht hW => ⟨⟨_, h, rfl, kk, by rw [ht]; exact a1⟩, by rw [ht]; exact a2⟩) a3 hd C.lock))
theorem v_dret {x : UInt64} (hd : decode cc pc = .ok (.dreturn, 1)) (hr : y_r Y = some .double) (kk : P (some (.double x)) h) : V G E Y cc nL (QM G E P X) h k n pc lv [(.double x)] := by
  intro C H locs cells slots ls a1 a2 a3 a4 a5 a6
  exact W.widen (k := (e_R E).cells) (n := (e_R E).slots) (by omega) (by omega) (vx_ret (W.dret C.1 C.2.1 (C.ret.trans hr) (fun t ht hW => ⟨⟨_, h, rfl, kk, by rw [ht]; exact a1⟩, by rw [ht]; exact a2⟩) a3 hd C.lock))
theorem v_aret {x : Nat} {ty : FieldType} (hd : decode cc pc = .ok (.areturn, 1)) (hr : y_r Y = some ty) (hrt : (∃ n, ty = .object n) ∨ ∃ t, ty = .array t) (kk : P (some (.ref x)) h) : V G E Y cc nL (QM G E P X) h k n pc lv [(.ref x)] := by
  intro C H locs cells slots ls a1 a2 a3 a4 a5 a6
  exact W.widen (k := (e_R E).cells) (n := (e_R E).slots) (by omega) (by omega) (vx_ret (W.aret C.1 C.2.1 (C.ret.trans hr) hrt (Or.inr ⟨_, rfl⟩) (fun t ht hW => ⟨⟨_, h, rfl, kk, by rw [ht]; exact a1⟩, by rw [ht]; exact a2⟩) a3 hd C.lock))
theorem v_nret {ty : FieldType} (hd : decode cc pc = .ok (.areturn, 1)) (hr : y_r Y = some ty) (hrt : (∃ n, ty = .object n) ∨ ∃ t, ty = .array t) (kk : P (some (.null)) h) : V G E Y cc nL (QM G E P X) h k n pc lv [(.null)] := by
  intro C H locs cells slots ls a1 a2 a3 a4 a5 a6
  exact W.widen (k := (e_R E).cells) (n := (e_R E).slots) (by omega) (by omega) (vx_ret (W.aret C.1 C.2.1 (C.ret.trans hr) hrt (Or.inl rfl) (fun t ht hW => ⟨⟨_, h, rfl, kk, by rw [ht]; exact a1⟩, by rw [ht]; exact a2⟩) a3 hd C.lock))
theorem v_vret (hd : decode cc pc = .ok (.return_, 1)) (hr : y_r Y = none) (kk : P (none) h) : V G E Y cc nL (QM G E P X) h k n pc lv [] := by
  intro C H locs cells slots ls a1 a2 a3 a4 a5 a6
  exact W.widen (k := (e_R E).cells) (n := (e_R E).slots) (by omega) (by omega) (vx_ret (W.vret C.1 C.2.1 (C.ret.trans hr) (fun t ht hW => ⟨⟨_, h, rfl, kk, by rw [ht]; exact a1⟩, by rw [ht]; exact a2⟩) a3 hd C.lock))
theorem v_qret {r : Option Nat} {ty : FieldType} (hd : decode cc pc = .ok (.areturn, 1)) (hr : y_r Y = some ty) (hrt : (∃ n, ty = .object n) ∨ ∃ t, ty = .array t) (kk : P (some (va_rf r)) h) : V G E Y cc nL (QM G E P X) h k n pc lv [va_rf r] := by
  cases r with
  | none => exact v_nret hd hr hrt kk
  | some x => exact v_aret hd hr hrt kk
theorem v_athrow {q ci : Nat} {fs : List Value} {T : u_T} {N : Nat} {D : String} (hd : decode cc pc = .ok (.athrow, 1)) (hh : h q = some (true, .inr (ci, fs))) (hc : CL[ci]? = some (D, T, N)) (kk : VX G E Y cc nL Q h k n pc lv ci q) : V G E Y cc nL Q h k n pc lv (.ref q :: st) := by
  intro C H locs cells slots ls a1 a2 a3 a4 a5 a6
  obtain ⟨hB, ⟨r, h1, cell, q1, q2, q3, q4⟩, -⟩ := a1.2.2 _ _ hh
  cases hc.symm.trans h1
  exact vx_athrow C.1 C.2.1 hd (kk C H locs cells slots ls st _ cell a1 a2 a3 a4 a5 a6 hc q1 q3 (by rw [q2]; exact (C.K.1 ci _ hc).2.1))
/-- not caught here -/
theorem vx_leave {q ci : Nat} (hout : ∀ x ∈ tableOf (y_h Y), covers x pc = false) (kk : X ci q h) : VX G E Y cc nL (QM G E P X) h k n pc lv ci q := by
  intro C H locs cells slots ls rest r ce a1 a2 a3 a4 a5 a6 hc hce hcv hcl
  exact vx_out (by rw [C.tab]; exact hout) C.lock hce hcv hcl (fun t ht _ => ⟨⟨ci, r, h, hc, rfl, kk, by rw [ht]; exact a1⟩, by rw [ht]; exact a2⟩) a3 (by omega) (by omega)
/-- caught by the row x of the table -/
theorem vx_caught {q ci : Nat} {D nm : String} {T : u_T} {N : Nat} (pre : List ExceptionTableEntry) (x : ExceptionTableEntry) (suf : List ExceptionTableEntry) (hsplit : tableOf (y_h Y) = pre ++ x :: suf) (hpass : ∀ z ∈ pre, covers z pc = false ∨ (z.catchType ≠ 0 ∧ ∃ nm : String, Cond.classLink (y_n Y).cls z.catchType nm ∈ lw_all ∧ (D, nm) ∈ ncT)) (hx : covers x pc = true) (h0 : x.catchType ≠ 0) (hl : Cond.classLink (y_n Y).cls x.catchType nm ∈ lw_all) (hc : CL[ci]? = some (D, T, N)) (hca : Cond.castable D nm ∈ lw_tbl) (kk : V G E Y cc nL Q h k n x.handlerPc lv [.ref q]) : VX G E Y cc nL Q h k n pc lv ci q := by
  intro C H locs cells slots ls rest r ce a1 a2 a3 a4 a5 a6 hc2 hce hcv hcl
  cases hc.symm.trans hc2
  exact vx_catch C.own pre x suf (C.tab.trans hsplit) (fun z hz => (hpass z hz).imp id (fun w => ⟨w.1, w.2.choose, C.w w.2.choose_spec.1, va_Nc.moved C.warm.alike (C.2.2.2.2.2.2.2.2.2.2.2.2.2.2.2 _ w.2.choose_spec.2)⟩)) hx h0 (C.w hl) (va_Nw.use rfl (va_Nw.warmC C.warm (C.nw hca rfl))) hce hcv hcl (kk C H locs cells slots ls a1 a2 a3 a4 a5 a6)
theorem VX.weak {k' n' q ci : Nat} (kk : VX G E Y cc nL Q h k' n' pc lv ci q) (h1 : k' ≤ k) (h2 : n' ≤ n) : VX G E Y cc nL Q h k n pc lv ci q := fun C H locs cells slots ls rest r ce a1 a2 a3 a4 a5 a6 => kk C H locs cells slots ls rest r ce a1 a2 a3 (Nat.le_trans (Nat.add_le_add_left h1 _) a4) (Nat.le_trans (Nat.add_le_add_left h2 _) a5) a6
theorem V.run3 {mc ms : Nat} {aa : Array Value} {rest st0 : List Value}
    (run : Cx G E Y cc nL → ∀ (H : Heap) (locs : List Loc) (cells slots : Nat) (ls : Array Slot), Rep G h H → lvh ls nL lv → cells + mc ≤ (e_R E).cells ∧ slots + ms ≤ (e_R E).slots → vx_Run (e_p E) (e_l E) (e_e E) (e_R E) (e_s E) (e_m E) (e_a E) (e_b E) (e_t E) (e_c E) H locs cells slots mc ms (F0 (e_m E) pc ls st0) rest (QcP G P aa) (XcP G X) (fun q => g_B G ≤ q))
    (kk : ∀ (v : Option Value) (h' : Hp), P v h' → V G E Y cc nL Q h' k n (pc + 3) lv (v.toList ++ rest))
    (kx : ∀ (ci q : Nat) (h' : Hp), X ci q h' → VX G E Y cc nL Q h' k n pc lv ci q) : V G E Y cc nL Q h (k + mc) (n + ms) pc lv st0 := by
  intro C H locs cells slots ls a1 a2 a3 a4 a5 a6 T hT X0
  have app : ∀ L : List Loc, (∀ q ∈ L, g_B G ≤ q.base) → ∀ q ∈ locs ++ L, g_B G ≤ q.base := fun L hL q hq => (List.mem_append.mp hq).elim (a3 q) (hL q)
  rcases run C H locs cells slots ls a1 a6 ⟨by omega, by omega⟩ T hT X0 with ⟨v, st₀, t, T', L, h0, X', hL, e1, e2, ⟨⟨v', h', hv, hp, hR⟩, hz⟩, st⟩ | ⟨q, st₀, t, T', L, E', ce, h0, X', hL, e1, e2, ⟨⟨ci, r, h', hc, hE, hX, hR⟩, hz⟩, hce, hcv, hcl, st⟩
  · cases hv
    rw [h0] at hz
    obtain ⟨t2, a, b⟩ := kk v h' hp C T'.heap (locs ++ L) (cells + mc) (slots + ms) ls (by rw [e1]; exact hR) (by rw [e1]; omega) (app L hL) (by omega) (by omega) a6 T' rfl X'
    exact ⟨t2, st t2 a, b⟩
  · rw [h0] at hz
    obtain ⟨t2, a, b⟩ := kx ci q h' hX C T'.heap (locs ++ L) (cells + mc) (slots + ms) ls rest r ce (by rw [e1]; exact hR) (by rw [e1]; omega) (app L hL) (by omega) (by omega) a6 hc (by rw [e1]; exact hce) hcv (by rw [hE]; exact hcl) T' rfl X'
    exact ⟨t2, st.trans a, b⟩
theorem V.run5 {mc ms : Nat} {aa : Array Value} {rest st0 : List Value}
    (run : Cx G E Y cc nL → ∀ (H : Heap) (locs : List Loc) (cells slots : Nat) (ls : Array Slot), Rep G h H → lvh ls nL lv → cells + mc ≤ (e_R E).cells ∧ slots + ms ≤ (e_R E).slots → vx_Run5 (e_p E) (e_l E) (e_e E) (e_R E) (e_s E) (e_m E) (e_a E) (e_b E) (e_t E) (e_c E) H locs cells slots mc ms (F0 (e_m E) pc ls st0) rest (QcP G P aa) (XcP G X) (fun q => g_B G ≤ q))
    (kk : ∀ (v : Option Value) (h' : Hp), P v h' → V G E Y cc nL Q h' k n (pc + 5) lv (v.toList ++ rest))
    (kx : ∀ (ci q : Nat) (h' : Hp), X ci q h' → VX G E Y cc nL Q h' k n pc lv ci q) : V G E Y cc nL Q h (k + mc) (n + ms) pc lv st0 := by
  intro C H locs cells slots ls a1 a2 a3 a4 a5 a6 T hT X0
  have app : ∀ L : List Loc, (∀ q ∈ L, g_B G ≤ q.base) → ∀ q ∈ locs ++ L, g_B G ≤ q.base := fun L hL q hq => (List.mem_append.mp hq).elim (a3 q) (hL q)
  rcases run C H locs cells slots ls a1 a6 ⟨by omega, by omega⟩ T hT X0 with ⟨v, st₀, t, T', L, h0, X', hL, e1, e2, ⟨⟨v', h', hv, hp, hR⟩, hz⟩, st⟩ | ⟨q, st₀, t, T', L, E', ce, h0, X', hL, e1, e2, ⟨⟨ci, r, h', hc, hE, hX, hR⟩, hz⟩, hce, hcv, hcl, st⟩
  · cases hv
    rw [h0] at hz
    obtain ⟨t2, a, b⟩ := kk v h' hp C T'.heap (locs ++ L) (cells + mc) (slots + ms) ls (by rw [e1]; exact hR) (by rw [e1]; omega) (app L hL) (by omega) (by omega) a6 T' rfl X'
    exact ⟨t2, st t2 a, b⟩
  · rw [h0] at hz
    obtain ⟨t2, a, b⟩ := kx ci q h' hX C T'.heap (locs ++ L) (cells + mc) (slots + ms) ls rest r ce (by rw [e1]; exact hR) (by rw [e1]; omega) (app L hL) (by omega) (by omega) a6 hc (by rw [e1]; exact hce) hcv (by rw [hE]; exact hcl) T' rfl X'
    exact ⟨t2, st.trans a, b⟩

theorem v_callV {Yz : Yt} {cz : ByteArray} {nz mc ms index : Nat} {rest st0 : List Value} (na : Nat) {b ci : Nat} {w : Bool} {fs As : List Value} {D : String} {T : u_T} {N : Nat} (hd : decode cc pc = .ok (.invokevirtual index, 3)) (hM : MM G Yz cz nz mc ms (.ref b :: As) h P X) (hws : wsY Yz cz nz = ws_ (y_n Yz) cz nz (y_r Yz)) (hh : h b = some (w, .inr (ci, fs))) (hc : CL[ci]? = some (D, T, N)) (hw : GoodIn lw_all (wsV (y_n Y).cls index D (y_n Yz) (ws_ (y_n Yz) cz nz (y_r Yz)))) (hna : As.length = na) (hdd : (y_n Yz).cls = D ∧ (y_n Yz).cls ≠ "java/lang/invoke/MethodHandle" ∧ (y_n Yz).cls ≠ "java/lang/invoke/VarHandle" ∧ (parseMethodDescriptor (y_n Yz).desc).map (fun d => d.parameters.length) = some na) (hR : y_f Yz + 1 ≤ y_f Y ∧ 8 + (nz + 11) + y_o Yz ≤ y_o Y) (hst : st0 = As.reverse ++ .ref b :: rest) (hcat : (rest.map fun v => v.category).sum ≤ 8)
    (kk : ∀ (v : Option Value) (h' : Hp), P v h' → V G E Y cc nL Q h' k n (pc + 3) lv (v.toList ++ rest)) (kx : ∀ (ci q : Nat) (h' : Hp), X ci q h' → VX G E Y cc nL Q h' k n pc lv ci q) : V G E Y cc nL Q h (k + mc) (n + ms) pc lv st0 := by
  unfold MM at hM
  rw [hws] at hM
  exact V.run3 (aa := (Value.ref b :: As).toArray) (fun C H locs cells slots ls a1 a6 hf => vx_runV C.fix (hM _) (cwV na C.ts hw rfl rfl rfl hdd (by rw [C.fr, C.lo]; exact hR)) ⟨PcP.blind, a1.recv C hh hc, fun U hU hW => ⟨rfl, by rw [hU]; exact a1, State.WarmedH.trans C.warm hW⟩⟩ rfl hna a6.1.1 hst (lv_room hcat) hd hf) kk kx
theorem v_callVH {Yz : Yt} {cz : ByteArray} {nz mc ms index : Nat} {rest st0 : List Value} (na : Nat) {b ci : Nat} {w : Bool} {fs As : List Value} {D : String} {T : u_T} {N : Nat} (hd : decode cc pc = .ok (.invokevirtual index, 3)) (hM : MM G Yz cz nz mc ms (.ref b :: As) h P X) (hws : wsY Yz cz nz = wsW_ (y_n Yz) cz nz (y_r Yz) (y_h Yz)) (hh : h b = some (w, .inr (ci, fs))) (hc : CL[ci]? = some (D, T, N)) (hw : GoodIn lw_all (wsV (y_n Y).cls index D (y_n Yz) (wsW_ (y_n Yz) cz nz (y_r Yz) (y_h Yz)))) (hna : As.length = na) (hdd : (y_n Yz).cls = D ∧ (y_n Yz).cls ≠ "java/lang/invoke/MethodHandle" ∧ (y_n Yz).cls ≠ "java/lang/invoke/VarHandle" ∧ (parseMethodDescriptor (y_n Yz).desc).map (fun d => d.parameters.length) = some na) (hR : y_f Yz + 1 ≤ y_f Y ∧ 8 + (nz + 11) + y_o Yz ≤ y_o Y) (hst : st0 = As.reverse ++ .ref b :: rest) (hcat : (rest.map fun v => v.category).sum ≤ 8)
    (kk : ∀ (v : Option Value) (h' : Hp), P v h' → V G E Y cc nL Q h' k n (pc + 3) lv (v.toList ++ rest)) (kx : ∀ (ci q : Nat) (h' : Hp), X ci q h' → VX G E Y cc nL Q h' k n pc lv ci q) : V G E Y cc nL Q h (k + mc) (n + ms) pc lv st0 := by
  unfold MM at hM
  rw [hws] at hM
  exact V.run3 (aa := (Value.ref b :: As).toArray) (fun C H locs cells slots ls a1 a6 hf => vx_runVX C.fix (hM _) (vx_cwVW na C.ts hw rfl rfl rfl hdd (by rw [C.fr, C.lo]; exact hR)) ⟨PcP.blind, a1.recv C hh hc, fun U hU hW => ⟨rfl, by rw [hU]; exact a1, State.WarmedH.trans C.warm hW⟩⟩ rfl hna a6.1.1 hst (lv_room hcat) hd hf) kk kx
theorem v_callS {Yz : Yt} {cz : ByteArray} {nz mc ms index : Nat} {rest st0 : List Value} (na : Nat) {As : List Value} (hd : decode cc pc = .ok (.invokestatic index, 3)) (hM : MM G Yz cz nz mc ms As h P X) (hws : wsY Yz cz nz = ws_ (y_n Yz) cz nz (y_r Yz)) (hw : GoodIn lw_all (va_wsS (y_n Y).cls index (y_n Yz) (ws_ (y_n Yz) cz nz (y_r Yz)))) (hna : As.length = na) (hdd : (y_n Yz).cls ≠ "java/lang/invoke/MethodHandle" ∧ (y_n Yz).cls ≠ "java/lang/invoke/VarHandle" ∧ (parseMethodDescriptor (y_n Yz).desc).map (fun d => d.parameters.length) = some na) (hR : y_f Yz + 1 ≤ y_f Y ∧ 8 + (nz + 11) + y_o Yz ≤ y_o Y) (hst : st0 = As.reverse ++ rest) (hcat : (rest.map fun v => v.category).sum ≤ 8)
    (kk : ∀ (v : Option Value) (h' : Hp), P v h' → V G E Y cc nL Q h' k n (pc + 3) lv (v.toList ++ rest)) (kx : ∀ (ci q : Nat) (h' : Hp), X ci q h' → VX G E Y cc nL Q h' k n pc lv ci q) : V G E Y cc nL Q h (k + mc) (n + ms) pc lv st0 := by
  unfold MM at hM
  rw [hws] at hM
  exact V.run3 (aa := As.toArray) (fun C H locs cells slots ls a1 a6 hf => vx_runS C.fix (hM _) (va_cwS na C.ts hw rfl rfl rfl hdd (by rw [C.fr, C.lo]; exact hR)) ⟨PcP.blind, fun U hU hW => ⟨rfl, by rw [hU]; exact a1, State.WarmedH.trans C.warm hW⟩⟩ rfl hna a6.1.1 hst (lv_room hcat) hd hf) kk kx
theorem v_callI {Yz : Yt} {cz : ByteArray} {nz mc ms index : Nat} {rest st0 : List Value} (na : Nat) {b : Nat} {As : List Value} (hd : decode cc pc = .ok (.invokespecial index, 3)) (hM : MM G Yz cz nz mc ms (.ref b :: As) h P X) (hws : wsY Yz cz nz = ws_ (y_n Yz) cz nz (y_r Yz)) (hw : GoodIn lw_all (ws_ (y_n Yz) cz nz none)) (hyr : y_r Yz = none) (hini : Cond.initialized (y_n Yz).cls ∈ lw_all) (hl : Cond.methodLink (y_n Y).cls index (y_n Yz) ∈ lw_all) (hin : Cond.instanceMethod (y_n Yz) ∈ lw_all) (hy1 : (y_n Yz).name = "<init>") (hna : As.length = na) (hdd : (y_n Yz).cls ≠ "java/lang/invoke/MethodHandle" ∧ (y_n Yz).cls ≠ "java/lang/invoke/VarHandle" ∧ (parseMethodDescriptor (y_n Yz).desc).map (fun d => d.parameters.length) = some na) (hR : y_f Yz + 1 ≤ y_f Y ∧ 8 + (nz + 11) + y_o Yz ≤ y_o Y) (hst : st0 = As.reverse ++ .ref b :: rest) (hcat : (rest.map fun v => v.category).sum ≤ 8)
    (kk : ∀ (v : Option Value) (h' : Hp), P v h' → V G E Y cc nL Q h' k n (pc + 3) lv (v.toList ++ rest)) (kx : ∀ (ci q : Nat) (h' : Hp), X ci q h' → VX G E Y cc nL Q h' k n pc lv ci q) : V G E Y cc nL Q h (k + mc) (n + ms) pc lv st0 := by
  unfold MM at hM
  rw [hws] at hM
  exact V.run3 (aa := (Value.ref b :: As).toArray) (fun C H locs cells slots ls a1 a6 hf => vx_runI C.fix (by rw [hyr] at hM; exact hM _) (cwI na C.ts hw rfl rfl rfl (C.w hini) (C.w hl) (C.w hin) hy1 hdd (by rw [C.fr, C.lo]; exact hR)) ⟨PcP.blind, fun U hU hW => ⟨rfl, by rw [hU]; exact a1, State.WarmedH.trans C.warm hW⟩⟩ rfl hna a6.1.1 hst (lv_room hcat) hd hf) kk kx
theorem v_callIN {Yz : Yt} {cz : ByteArray} {nz mc ms index : Nat} {rest st0 : List Value} (na : Nat) {host : String} {b : Nat} {As : List Value} (hd : decode cc pc = .ok (.invokespecial index, 3)) (hM : MM G Yz cz nz mc ms (.ref b :: As) h P X) (hws : wsY Yz cz nz = ws_ (y_n Yz) cz nz (y_r Yz)) (hw : GoodIn lw_all (ws_ (y_n Yz) cz nz none)) (hyr : y_r Yz = none) (hini : Cond.initialized (y_n Yz).cls ∈ lw_all) (hl : Cond.methodLinkNest (y_n Y).cls index (y_n Yz) host ∈ lw_tbl) (hin : Cond.instanceMethod (y_n Yz) ∈ lw_all) (hy1 : (y_n Yz).name = "<init>") (hna : As.length = na) (hdd : (y_n Yz).cls ≠ "java/lang/invoke/MethodHandle" ∧ (y_n Yz).cls ≠ "java/lang/invoke/VarHandle" ∧ (parseMethodDescriptor (y_n Yz).desc).map (fun d => d.parameters.length) = some na) (hR : y_f Yz + 1 ≤ y_f Y ∧ 8 + (nz + 11) + y_o Yz ≤ y_o Y) (hst : st0 = As.reverse ++ .ref b :: rest) (hcat : (rest.map fun v => v.category).sum ≤ 8)
    (kk : ∀ (v : Option Value) (h' : Hp), P v h' → V G E Y cc nL Q h' k n (pc + 3) lv (v.toList ++ rest)) (kx : ∀ (ci q : Nat) (h' : Hp), X ci q h' → VX G E Y cc nL Q h' k n pc lv ci q) : V G E Y cc nL Q h (k + mc) (n + ms) pc lv st0 := by
  unfold MM at hM
  rw [hws] at hM
  exact V.run3 (aa := (Value.ref b :: As).toArray) (fun C H locs cells slots ls a1 a6 hf => vx_runIN C.fix (by rw [hyr] at hM; exact hM _) (⟨va_cnB na C.ts hw rfl rfl rfl (va_Nw.warmM C.warm (C.nw hl rfl)) (C.w hini) hdd (by rw [C.fr, C.lo]; exact hR), hy1, C.w hin⟩) ⟨PcP.blind, fun U hU hW => ⟨rfl, by rw [hU]; exact a1, State.WarmedH.trans C.warm hW⟩⟩ rfl hna a6.1.1 hst (lv_room hcat) hd hf) kk kx
theorem v_callVN {Yz : Yt} {cz : ByteArray} {nz mc ms index : Nat} {rest st0 : List Value} (na : Nat) {host : String} {b ci : Nat} {w : Bool} {fs As : List Value} {D : String} {T : u_T} {N : Nat} (hd : decode cc pc = .ok (.invokevirtual index, 3)) (hM : MM G Yz cz nz mc ms (.ref b :: As) h P X) (hws : wsY Yz cz nz = ws_ (y_n Yz) cz nz (y_r Yz)) (hh : h b = some (w, .inr (ci, fs))) (hc : CL[ci]? = some (D, T, N)) (hw : GoodIn lw_all (ws_ (y_n Yz) cz nz (y_r Yz))) (hini : Cond.initialized (y_n Yz).cls ∈ lw_all) (hl : Cond.methodLinkNest (y_n Y).cls index (y_n Yz) host ∈ lw_tbl) (hin : Cond.instanceMethod (y_n Yz) ∈ lw_all) (hsel : Cond.selects D (y_n Yz) (y_n Yz) ∈ lw_all) (hna : As.length = na) (hdd : (y_n Yz).cls ≠ "java/lang/invoke/MethodHandle" ∧ (y_n Yz).cls ≠ "java/lang/invoke/VarHandle" ∧ (parseMethodDescriptor (y_n Yz).desc).map (fun d => d.parameters.length) = some na) (hR : y_f Yz + 1 ≤ y_f Y ∧ 8 + (nz + 11) + y_o Yz ≤ y_o Y) (hst : st0 = As.reverse ++ .ref b :: rest) (hcat : (rest.map fun v => v.category).sum ≤ 8)
    (kk : ∀ (v : Option Value) (h' : Hp), P v h' → V G E Y cc nL Q h' k n (pc + 3) lv (v.toList ++ rest)) (kx : ∀ (ci q : Nat) (h' : Hp), X ci q h' → VX G E Y cc nL Q h' k n pc lv ci q) : V G E Y cc nL Q h (k + mc) (n + ms) pc lv st0 := by
  unfold MM at hM
  rw [hws] at hM
  exact V.run3 (aa := (Value.ref b :: As).toArray) (fun C H locs cells slots ls a1 a6 hf => vx_runVN C.fix (hM _) (⟨va_cnB na C.ts hw rfl rfl rfl (va_Nw.warmM C.warm (C.nw hl rfl)) (C.w hini) hdd (by rw [C.fr, C.lo]; exact hR), C.w hin, C.w hsel⟩) ⟨PcP.blind, a1.recv C hh hc, fun U hU hW => ⟨rfl, by rw [hU]; exact a1, State.WarmedH.trans C.warm hW⟩⟩ rfl hna a6.1.1 hst (lv_room hcat) hd hf) kk kx
theorem v_callSN {Yz : Yt} {cz : ByteArray} {nz mc ms index : Nat} {rest st0 : List Value} (na : Nat) {host : String} {As : List Value} (hd : decode cc pc = .ok (.invokestatic index, 3)) (hM : MM G Yz cz nz mc ms As h P X) (hws : wsY Yz cz nz = ws_ (y_n Yz) cz nz (y_r Yz)) (hw : GoodIn lw_all (ws_ (y_n Yz) cz nz (y_r Yz))) (hini : Cond.initialized (y_n Yz).cls ∈ lw_all) (hl : Cond.methodLinkNest (y_n Y).cls index (y_n Yz) host ∈ lw_tbl) (hstc : Cond.static (y_n Yz) ∈ lw_all) (hna : As.length = na) (hdd : (y_n Yz).cls ≠ "java/lang/invoke/MethodHandle" ∧ (y_n Yz).cls ≠ "java/lang/invoke/VarHandle" ∧ (parseMethodDescriptor (y_n Yz).desc).map (fun d => d.parameters.length) = some na) (hR : y_f Yz + 1 ≤ y_f Y ∧ 8 + (nz + 11) + y_o Yz ≤ y_o Y) (hst : st0 = As.reverse ++ rest) (hcat : (rest.map fun v => v.category).sum ≤ 8)
    (kk : ∀ (v : Option Value) (h' : Hp), P v h' → V G E Y cc nL Q h' k n (pc + 3) lv (v.toList ++ rest)) (kx : ∀ (ci q : Nat) (h' : Hp), X ci q h' → VX G E Y cc nL Q h' k n pc lv ci q) : V G E Y cc nL Q h (k + mc) (n + ms) pc lv st0 := by
  unfold MM at hM
  rw [hws] at hM
  exact V.run3 (aa := As.toArray) (fun C H locs cells slots ls a1 a6 hf => vx_runSN C.fix (hM _) (⟨va_cnB na C.ts hw rfl rfl rfl (va_Nw.warmM C.warm (C.nw hl rfl)) (C.w hini) hdd (by rw [C.fr, C.lo]; exact hR), C.w hstc, trivial⟩) ⟨PcP.blind, fun U hU hW => ⟨rfl, by rw [hU]; exact a1, State.WarmedH.trans C.warm hW⟩⟩ rfl hna a6.1.1 hst (lv_room hcat) hd hf) kk kx
theorem v_callU {Yz : Yt} {cz : ByteArray} {nz mc ms index : Nat} {rest st0 : List Value} (na : Nat) {owner : String} {x : MethodName} {b ci : Nat} {w : Bool} {fs As : List Value} {D : String} {T : u_T} {N : Nat} (hd : decode cc pc = .ok (.invokevirtual index, 3)) (hM : MM G Yz cz nz mc ms (.ref b :: As) h P X) (hws : wsY Yz cz nz = ws_ (y_n Yz) cz nz (y_r Yz)) (hh : h b = some (w, .inr (ci, fs))) (hc : CL[ci]? = some (D, T, N)) (hw : GoodIn lw_all (va_wsU (y_n Y).cls index D owner x (y_n Yz) (ws_ (y_n Yz) cz nz (y_r Yz)))) (hyx : y_n Yz = ⟨owner, x.name, x.desc⟩) (hna : As.length = na) (hdd : owner ≠ "java/lang/invoke/MethodHandle" ∧ owner ≠ "java/lang/invoke/VarHandle" ∧ (parseMethodDescriptor x.desc).map (fun d => d.parameters.length) = some na) (hR : y_f Yz + 1 ≤ y_f Y ∧ 8 + (nz + 11) + y_o Yz ≤ y_o Y) (hst : st0 = As.reverse ++ .ref b :: rest) (hcat : (rest.map fun v => v.category).sum ≤ 8)
    (kk : ∀ (v : Option Value) (h' : Hp), P v h' → V G E Y cc nL Q h' k n (pc + 3) lv (v.toList ++ rest)) (kx : ∀ (ci q : Nat) (h' : Hp), X ci q h' → VX G E Y cc nL Q h' k n pc lv ci q) : V G E Y cc nL Q h (k + mc) (n + ms) pc lv st0 := by
  unfold MM at hM
  rw [hws] at hM
  exact V.run3 (aa := (Value.ref b :: As).toArray) (fun C H locs cells slots ls a1 a6 hf => vx_runU C.fix (hM _) (va_cwU na C.ts hw rfl rfl rfl hyx hdd (by rw [C.fr, C.lo]; exact hR)) ⟨PcP.blind, a1.recv C hh hc, fun U hU hW => ⟨rfl, by rw [hU]; exact a1, State.WarmedH.trans C.warm hW⟩⟩ rfl hna a6.1.1 hst (lv_room hcat) hd hf) kk kx
theorem v_callA {Yz : Yt} {cz : ByteArray} {nz mc ms index : Nat} {rest st0 : List Value} (na : Nat) {owner : String} {x : MethodName} {b ci : Nat} {w : Bool} {fs As : List Value} {D : String} {T : u_T} {N : Nat} (hd : decode cc pc = .ok (.invokevirtual index, 3)) (hM : MM G Yz cz nz mc ms (.ref b :: As) h P X) (hws : wsY Yz cz nz = ws_ (y_n Yz) cz nz (y_r Yz)) (hh : h b = some (w, .inr (ci, fs))) (hc : CL[ci]? = some (D, T, N)) (hw : GoodIn lw_all (va_wsU (y_n Y).cls index D owner x (y_n Yz) (ws_ (y_n Yz) cz nz (y_r Yz)))) (hz : Cond.declares ⟨owner, x.name, x.desc⟩ ∈ lw_tbl) (hna : As.length = na) (hdd : owner ≠ "java/lang/invoke/MethodHandle" ∧ owner ≠ "java/lang/invoke/VarHandle" ∧ (parseMethodDescriptor x.desc).map (fun d => d.parameters.length) = some na) (hR : y_f Yz + 1 ≤ y_f Y ∧ 8 + (nz + 11) + y_o Yz ≤ y_o Y) (hst : st0 = As.reverse ++ .ref b :: rest) (hcat : (rest.map fun v => v.category).sum ≤ 8)
    (kk : ∀ (v : Option Value) (h' : Hp), P v h' → V G E Y cc nL Q h' k n (pc + 3) lv (v.toList ++ rest)) (kx : ∀ (ci q : Nat) (h' : Hp), X ci q h' → VX G E Y cc nL Q h' k n pc lv ci q) : V G E Y cc nL Q h (k + mc) (n + ms) pc lv st0 := by
  unfold MM at hM
  rw [hws] at hM
  exact V.run3 (aa := (Value.ref b :: As).toArray) (fun C H locs cells slots ls a1 a6 hf => vx_runU C.fix (hM _) (va_cwA na C.ts hw rfl rfl rfl (va_Nw.warmD C.warm (C.nw hz rfl)) hdd (by rw [C.fr, C.lo]; exact hR)) ⟨PcP.blind, a1.recv C hh hc, fun U hU hW => ⟨rfl, by rw [hU]; exact a1, State.WarmedH.trans C.warm hW⟩⟩ rfl hna a6.1.1 hst (lv_room hcat) hd hf) kk kx
theorem v_callSU {Yz : Yt} {cz : ByteArray} {nz mc ms index : Nat} {rest st0 : List Value} (na : Nat) {b ci : Nat} {w : Bool} {fs As : List Value} {D : String} {T : u_T} {N : Nat} (hd : decode cc pc = .ok (.invokespecial index, 3)) (hM : MM G Yz cz nz mc ms (.ref b :: As) h P X) (hws : wsY Yz cz nz = ws_ (y_n Yz) cz nz (y_r Yz)) (hh : h b = some (w, .inr (ci, fs))) (hc : CL[ci]? = some (D, T, N)) (hw : GoodIn lw_all (va_wsSU (y_n Y).cls index (y_n Yz) (ws_ (y_n Yz) cz nz (y_r Yz)))) (hna : As.length = na) (hdd : (y_n Yz).name ≠ "<init>" ∧ (parseMethodDescriptor (y_n Yz).desc).map (fun d => d.parameters.length) = some na) (hR : y_f Yz + 1 ≤ y_f Y ∧ 8 + (nz + 11) + y_o Yz ≤ y_o Y) (hst : st0 = As.reverse ++ .ref b :: rest) (hcat : (rest.map fun v => v.category).sum ≤ 8)
    (kk : ∀ (v : Option Value) (h' : Hp), P v h' → V G E Y cc nL Q h' k n (pc + 3) lv (v.toList ++ rest)) (kx : ∀ (ci q : Nat) (h' : Hp), X ci q h' → VX G E Y cc nL Q h' k n pc lv ci q) : V G E Y cc nL Q h (k + mc) (n + ms) pc lv st0 := by
  unfold MM at hM
  rw [hws] at hM
  exact V.run3 (aa := (Value.ref b :: As).toArray) (fun C H locs cells slots ls a1 a6 hf => vx_runSU (C.K.1 ci _ hc).2 C.fix (hM _) (va_cwSU na C.ts hw rfl rfl rfl hdd (by rw [C.fr, C.lo]; exact hR)) ⟨PcP.blind, a1.recv C hh hc, fun U hU hW => ⟨rfl, by rw [hU]; exact a1, State.WarmedH.trans C.warm hW⟩⟩ rfl hna a6.1.1 hst (lv_room hcat) hd hf) kk kx
theorem v_callF {Yz : Yt} {cz : ByteArray} {nz mc ms index : Nat} {rest st0 : List Value} (na : Nat) {x : MethodName} {count : Nat} {b ci : Nat} {w : Bool} {fs As : List Value} {D : String} {T : u_T} {N : Nat} (hd : decode cc pc = .ok (.invokeinterface index count, 5)) (hM : MM G Yz cz nz mc ms (.ref b :: As) h P X) (hws : wsY Yz cz nz = ws_ (y_n Yz) cz nz (y_r Yz)) (hh : h b = some (w, .inr (ci, fs))) (hc : CL[ci]? = some (D, T, N)) (hw : GoodIn lw_all (va_wsF (y_n Y).cls index D x (y_n Yz) (ws_ (y_n Yz) cz nz (y_r Yz)))) (hF : Cx G E Y cc nL → va_Fw D x (y_n Yz) (e_s E)) (hna : As.length = na) (hdd : x.cls ≠ "java/lang/invoke/MethodHandle" ∧ x.cls ≠ "java/lang/invoke/VarHandle" ∧ (parseMethodDescriptor x.desc).map (fun d => d.parameters.length) = some na) (hR : y_f Yz + 1 ≤ y_f Y ∧ 8 + (nz + 11) + y_o Yz ≤ y_o Y) (hst : st0 = As.reverse ++ .ref b :: rest) (hcat : (rest.map fun v => v.category).sum ≤ 8)
    (kk : ∀ (v : Option Value) (h' : Hp), P v h' → V G E Y cc nL Q h' k n (pc + 5) lv (v.toList ++ rest)) (kx : ∀ (ci q : Nat) (h' : Hp), X ci q h' → VX G E Y cc nL Q h' k n pc lv ci q) : V G E Y cc nL Q h (k + mc) (n + ms) pc lv st0 := by
  unfold MM at hM
  rw [hws] at hM
  exact V.run5 (aa := (Value.ref b :: As).toArray) (fun C H locs cells slots ls a1 a6 hf => vx_runF (C.K.1 ci _ hc).2 C.fix (hM _) (va_cwF na C.ts hw rfl rfl rfl (hF C) hdd (by rw [C.fr, C.lo]; exact hR)) ⟨PcP.blind, a1.recv C hh hc, fun U hU hW => ⟨rfl, by rw [hU]; exact a1, State.WarmedH.trans C.warm hW⟩⟩ rfl hna a6.1.1 hst (lv_room hcat) hd hf) kk kx
theorem v_Fw (C : Cx G E Y cc nL) {D : String} {x y : MethodName} (hx : x.cls ≠ "java/lang/invoke/MethodHandle" ∧ x.cls ≠ "java/lang/invoke/VarHandle") (h1 : Cond.declares x ∈ lw_tbl) (h2 : Cond.interfaceMethod x.cls x.cls x.name x.desc ∈ lw_tbl) (h3 : Cond.publicMethod y ∈ lw_tbl) (h4 : Cond.unhidden D x.name x.desc ∈ lw_tbl) (h5 : Cond.castable D x.cls ∈ lw_tbl) : va_Fw D x y (e_s E) := by
  have hw := C.warm.alike
  obtain ⟨-, -, -, -, -, -, -, -, -, -, -, ⟨A0, h0⟩, -⟩ := C
  exact va_Fw.moved hx hw (va_Fw.of (h0 _ h1) (h0 _ h2) (h0 _ h3) (h0 _ h4) (h0 _ h5))
end VE
