/-! LAYER V, sixth part: two more calls, copies of bytes -/
set_option maxRecDepth 100000
theorem m_selP {D : String} {y x2 : MethodName} {s : State} {args : Array Value} (hy : y.cls ≠ "java/lang/invoke/MethodHandle" ∧ y.cls ≠ "java/lang/invoke/VarHandle") (hpriv : (Cond.privateMethod y).before args s = true) (hinst : (Cond.instanceMethod y).before args s = true) (h2 : (Cond.selects D x2 x2).before args s = true) (hc : x2.cls = y.cls) : (Cond.selects D y y).before args s = true := by
  obtain ⟨c2, r2, m2, q1, q2, q3, q4, kP, hkP, hkPi⟩ := Cond.selects_spec h2
  obtain ⟨mk, methM, hnamed, hmethM, -, -⟩ := Cond.instanceMethod_spec hinst
  have hfound : s.methodFound? y.cls y.name y.desc = some mk := State.methodFound?_of_named hnamed hy
  have e1 := findClass_of_methodNamed hnamed
  have e2 := findClass_of_methodNamed q3
  rw [hc] at e2
  have e : mk.cls = m2.cls := Option.some.inj (e1.symm.trans e2)
  have hsel : selectMethod {} s.vm c2 mk = .method mk := selectMethod_private hmethM (Cond.privateMethod_at hpriv mk methM hnamed hmethM)
  simp only [Cond.before, Cond.holds, Cond.value, q1, hfound, hnamed, hsel, e, hkP]
  simp; exact hkPi
section VE
variable {G : Gt} {E : Ev} {Y : Yt} {cc : ByteArray} {nL : Nat} {Q : State → Prop} {h : Hp} {k n pc : Nat} {lv : List (Nat × Value)} {st : List Value} {P : Option Value → Hp → Prop} {X : Nat → Nat → Hp → Prop}
theorem Cx.selP (C : Cx G E Y cc nL) {D : String} {y x2 : MethodName} (hy : y.cls ≠ "java/lang/invoke/MethodHandle" ∧ y.cls ≠ "java/lang/invoke/VarHandle") (hpriv : Cond.privateMethod y ∈ lw_tbl) (hinst : Cond.instanceMethod y ∈ lw_tbl) (h2 : Cond.selects D x2 x2 ∈ lw_tbl) (hc : x2.cls = y.cls) : (Cond.selects D y y).before (e_a E) (e_s E) = true := by
  have hW := C.warm
  obtain ⟨-, -, -, -, -, -, -, -, -, -, -, ⟨A0, h0⟩, -⟩ := C
  exact word_at hW (Or.inl rfl) (m_selP hy (h0 _ hpriv) (h0 _ hinst) (h0 _ h2) hc)
theorem v_callP {Yz : Yt} {cz : ByteArray} {nz mc ms index : Nat} {rest st0 : List Value} (na : Nat) {x2 : MethodName} {b ci : Nat} {w : Bool} {fs As : List Value} {D : String} {T : u_T} {N : Nat} (hd : decode cc pc = .ok (.invokevirtual index, 3)) (hM : MM G Yz cz nz mc ms (.ref b :: As) h P X) (hws : wsY Yz cz nz = ws_ (y_n Yz) cz nz (y_r Yz)) (hh : h b = some (w, .inr (ci, fs))) (hc : CL[ci]? = some (D, T, N)) (hw : GoodIn lw_all (ws_ (y_n Yz) cz nz (y_r Yz))) (hini : Cond.initialized (y_n Yz).cls ∈ lw_all) (hl : Cond.methodLink (y_n Y).cls index (y_n Yz) ∈ lw_all) (hin : Cond.instanceMethod (y_n Yz) ∈ lw_all) (hpr : Cond.privateMethod (y_n Yz) ∈ lw_tbl) (h2 : Cond.selects D x2 x2 ∈ lw_all) (hx2 : x2.cls = (y_n Yz).cls) (hna : As.length = na) (hdd : (y_n Yz).cls ≠ "java/lang/invoke/MethodHandle" ∧ (y_n Yz).cls ≠ "java/lang/invoke/VarHandle" ∧ (parseMethodDescriptor (y_n Yz).desc).map (fun d => d.parameters.length) = some na) (hR : y_f Yz + 1 ≤ y_f Y ∧ 8 + (nz + 11) + y_o Yz ≤ y_o Y) (hst : st0 = As.reverse ++ .ref b :: rest) (hcat : (rest.map fun v => v.category).sum ≤ 8)
    (kk : ∀ (v : Option Value) (h' : Hp), P v h' → V G E Y cc nL Q h' k n (pc + 3) lv (v.toList ++ rest)) (kx : ∀ (ci q : Nat) (h' : Hp), X ci q h' → VX G E Y cc nL Q h' k n pc lv ci q) : V G E Y cc nL Q h (k + mc) (n + ms) pc lv st0 := by
  unfold MM at hM
  rw [hws] at hM
  exact V.run3 (aa := (Value.ref b :: As).toArray) (fun C H locs cells slots ls a1 a6 hf => vx_runV C.fix (hM _) (⟨callB_of na C.ts hw rfl rfl rfl (C.w hini) (C.w hl) hdd (by rw [C.fr, C.lo]; exact hR), C.w hin, C.selP ⟨hdd.1, hdd.2.1⟩ hpr (lw_all_tbl hin) (lw_all_tbl h2) hx2⟩) ⟨PcP.blind, a1.recv C hh hc, fun U hU hW => ⟨rfl, by rw [hU]; exact a1, State.WarmedH.trans C.warm hW⟩⟩ rfl hna a6.1.1 hst (lv_room hcat) hd hf) kk kx
theorem v_callO {Yz : Yt} {cz : ByteArray} {nz mc ms index : Nat} {rest st0 : List Value} (na : Nat) {owner : String} {x : MethodName} {b0 : ByteArray} {m0 : Nat} {r0 : Option FieldType} {b ci : Nat} {w : Bool} {fs As : List Value} {D : String} {T : u_T} {N : Nat} (hd : decode cc pc = .ok (.invokevirtual index, 3)) (hM : MM G Yz cz nz mc ms (.ref b :: As) h P X) (hws : wsY Yz cz nz = ws_ (y_n Yz) cz nz (y_r Yz)) (hh : h b = some (w, .inr (ci, fs))) (hc : CL[ci]? = some (D, T, N)) (hw : GoodIn lw_all (va_wsO (y_n Y).cls index D owner x (y_n Yz) (ws_ (y_n Yz) cz nz (y_r Yz)))) (hz : Cond.code ⟨owner, x.name, x.desc⟩ b0 m0 r0 ∈ lw_all) (hna : As.length = na) (hdd : owner ≠ "java/lang/invoke/MethodHandle" ∧ owner ≠ "java/lang/invoke/VarHandle" ∧ (parseMethodDescriptor x.desc).map (fun d => d.parameters.length) = some na) (hR : y_f Yz + 1 ≤ y_f Y ∧ 8 + (nz + 11) + y_o Yz ≤ y_o Y) (hst : st0 = As.reverse ++ .ref b :: rest) (hcat : (rest.map fun v => v.category).sum ≤ 8)
    (kk : ∀ (v : Option Value) (h' : Hp), P v h' → V G E Y cc nL Q h' k n (pc + 3) lv (v.toList ++ rest)) (kx : ∀ (ci q : Nat) (h' : Hp), X ci q h' → VX G E Y cc nL Q h' k n pc lv ci q) : V G E Y cc nL Q h (k + mc) (n + ms) pc lv st0 := by
  unfold MM at hM
  rw [hws] at hM
  exact V.run3 (aa := (Value.ref b :: As).toArray) (fun C H locs cells slots ls a1 a6 hf => vx_runU C.fix (hM _) (va_cwO na C.ts hw rfl rfl rfl hz hdd (by rw [C.fr, C.lo]; exact hR)) ⟨PcP.blind, a1.recv C hh hc, fun U hU hW => ⟨rfl, by rw [hU]; exact a1, State.WarmedH.trans C.warm hW⟩⟩ rfl hna a6.1.1 hst (lv_room hcat) hd hf) kk kx
theorem v_ldcw {index : Nat} {v : Int32} (hd : decode cc pc = .ok (.ldc_w index, 3)) (hw : Cond.constant (y_n Y).cls index v ∈ lw_all) (kk : V G E Y cc nL Q h k n (pc + 3) lv (.int v :: st)) : V G E Y cc nL Q h k n pc lv st := by
  intro C H locs cells slots ls a1 a2 a3 a4 a5 a6
  exact lv_ldcw C.1 C.2.1 C.own (C.w hw) hd (kk C H locs cells slots ls a1 a2 a3 a4 a5 a6)
theorem copy_lo {st : List Value} {o : Nat} (hst : (st.map fun v => v.category).sum ≤ 8) (ho : 40 ≤ o) : 2 * 0 + (st.map fun v => v.category).sum + (nativeFrameWords "java/lang/System" "arraycopy" 5 + 11) ≤ o := by
  have h : nativeFrameWords "java/lang/System" "arraycopy" 5 + 11 ≤ 32 := by decide
  omega
theorem v_copyB {a0 a1 N0 N1 index : Nat} {w : Bool} {f g : Nat → Int32} {sp dp z : Int32} (hd : decode cc pc = .ok (.invokestatic index, 3)) (hl : Cond.methodLink (y_n Y).cls index arraycopyName ∈ lw_all) (hnat : Cond.native arraycopyName ∈ lw_all) (hstat : Cond.static arraycopyName ∈ lw_all) (hini : Cond.initialized "java/lang/System" ∈ lw_all) (h0 : h a0 = some (w, .inl (1, N0, .inl f))) (h1 : h a1 = some (true, .inl (1, N1, .inl g))) (q1 : ¬ sp < 0) (q2 : ¬ dp < 0) (q3 : ¬ z < 0) (q4 : sp.toNatClampNeg + z.toNatClampNeg ≤ N0) (q5 : dp.toNatClampNeg + z.toNatClampNeg ≤ N1) (hfit : ∀ i : Nat, i < z.toNatClampNeg → fits .byte (.int (f (sp.toNatClampNeg + i))) = true) (hst : (st.map fun v => v.category).sum ≤ 8) (hf : 1 ≤ y_f Y) (ho : 40 ≤ y_o Y)
    (kk : V G E Y cc nL Q (hs h a1 (true, .inl (1, N1, .inl (va_cpy f g sp.toNatClampNeg dp.toNatClampNeg z.toNatClampNeg)))) k n (pc + 3) lv st) : V G E Y cc nL Q h k n pc lv (.int z :: .int dp :: .ref a1 :: .int sp :: .ref a0 :: st) := by
  have nn : ∀ z : Int32, ¬ z < 0 → z.toInt = (z.toNatClampNeg : Int) := by
    intro z hz
    have hz0 : (0 : Int) ≤ z.toInt := by
      have := Int32.not_lt.mp hz
      simpa using Int32.le_iff_toInt_le.mp this
    show z.toInt = ((z.toInt.toNat : Nat) : Int)
    omega
  intro C H locs cells slots ls b1 b2 b3 b4 b5 b6 T hT X
  obtain ⟨scr, hc0, hs2, hs3, hs4, hs5⟩ := b1.a C h0
  obtain ⟨hB, hc1, ht1, hA1⟩ := b1.arrT C h1
  obtain ⟨hs6, k0, hk0, cm0, hkk0⟩ := hs2
  obtain ⟨-, k1, hk1, cm1, hkk1⟩ := hA1 N1 (fun j => .int (g j))
  have hF : (e_R E).frames = y_f Y := C.fr
  have hL : (e_R E).locals = y_o Y := C.lo
  obtain ⟨vm', X', step⟩ := X.arraycopy C.1 C.own (C.w hl) (C.w hnat) (C.w hstat) (C.w hini) (src := a0) (dst := a1) (cs := scr) (cd := vp_cell (g_A G 1) (N1, .inl g)) (srcPos := sp) (destPos := dp) (n := z) (by rw [hT]; exact hc0) (by rw [hT]; exact hc1)
    hs6 (fun _ h => by cases h) hs3 (fun h => by cases h) hk0 hk1 hkk0 hkk1 (by simp [refKind, AT]) q1 q2 q3
    (by rw [nn sp q1, nn z q3]; have : scr.slots.size = N0 := hs4; omega)
    (by rw [nn dp q2, nn z q3]; show ¬ _ > ((arrV _ N1 (fun j => .int (g j))).slots.size : Int); rw [arrV_size]; omega)
    (fun vm₁ _ i hi => by
      have e : scr.slots.getD (sp.toNatClampNeg + i) .null = .int (f (sp.toNatClampNeg + i)) := by
        rw [Array.getD_eq_getD_getElem?, hs5 _ (by show _ < N0; omega)]
        rfl
      refine ⟨?_, ?_⟩
      · rw [e]
        exact hfit i hi
      · rw [e]
        exact trivial)
    (g := F0 (e_m E) pc ls (.int z :: .int dp :: .ref a1 :: .int sp :: .ref a0 :: st)) rfl (by rw [C.2.2.1]; exact b6.1.1) (rest := st) rfl (by rw [C.2.1]; exact hd) (by rw [hF]; exact hf) (by rw [hL]; exact copy_lo hst ho)
  have e1 : copied scr (vp_cell (g_A G 1) (N1, .inl g)) sp dp z = vp_cell (g_A G 1) (N1, .inl (va_cpy f g sp.toNatClampNeg dp.toNatClampNeg z.toNatClampNeg)) := va_copiedX (fun z => .int z) scr (g_A G 1) f g hs5 q4
  rw [e1] at X' step
  have hla : a1 < H.size := (Array.getElem?_eq_some_iff.mp hc1).1
  have hheap : ((T.setVm vm').setCell a1 (vp_cell (g_A G 1) (N1, .inl (va_cpy f g sp.toNatClampNeg dp.toNatClampNeg z.toNatClampNeg)))).heap = H.setIfInBounds a1 (vp_cell (g_A G 1) (N1, .inl (va_cpy f g sp.toNatClampNeg dp.toNatClampNeg z.toNatClampNeg))) := by rw [← hT]; rfl
  obtain ⟨t, c1, c2⟩ := kk C (H.setIfInBounds a1 (vp_cell (g_A G 1) (N1, .inl (va_cpy f g sp.toNatClampNeg dp.toNatClampNeg z.toNatClampNeg)))) _ cells slots ls (b1.set hB (by simp) ⟨hB, by show (H.setIfInBounds a1 _)[a1]? = some _; simp [Array.getElem?_setIfInBounds, hla], ht1⟩ (fun q hq => by simp [Array.getElem?_setIfInBounds, Ne.symm hq])) (by simp; exact b2) (fun q hq => by
      rcases List.mem_append.mp hq with h | h
      · exact b3 q h
      · obtain ⟨z, -, hz⟩ := List.mem_map.mp h
        rw [← hz]
        exact hB) b4 b5 b6 _ hheap X'
  exact ⟨t, step t c1, c2⟩
end VE
theorem lk_ne {x v : Int32} {z : Int} (h : ¬ x = v) (hv : v.toInt = z) : x.toInt ≠ z := fun e => h (Int32.toInt_inj.mp (e.trans hv.symm))
theorem lk_at {ps : List (Int × Int)} {d off : Int} {x v : Int32} (h : x = v) (ho : Op.lookupswitch.offset ps d v.toInt = off) : Op.lookupswitch.offset ps d x.toInt = off := by subst h; exact ho
/-- bytes copied -/
def cB (h : Hp) (r1 : Option Nat) (sp : Int32) (r2 : Option Nat) (dp z : Int32) (K : Hp → Prop) : Prop := ∃ a0 w N0 f a1 N1 g, r1 = some a0 ∧ r2 = some a1 ∧ h a0 = some (w, .inl (1, N0, .inl f)) ∧ h a1 = some (true, .inl (1, N1, .inl g)) ∧ (¬ sp < 0 ∧ ¬ dp < 0 ∧ ¬ z < 0) ∧ sp.toNatClampNeg + z.toNatClampNeg ≤ N0 ∧ dp.toNatClampNeg + z.toNatClampNeg ≤ N1 ∧ (∀ i : Nat, i < z.toNatClampNeg → fits .byte (.int (f (sp.toNatClampNeg + i))) = true) ∧ K (hs h a1 (true, .inl (1, N1, .inl (va_cpy f g sp.toNatClampNeg dp.toNatClampNeg z.toNatClampNeg))))
theorem cB_s {h : Hp} {r1 r2 : Option Nat} {sp dp z : Int32} {K : Hp → Prop} (hf : cB h r1 sp r2 dp z K) : (∃ a, r1 = some a) ∧ ∃ a, r2 = some a := by obtain ⟨a0, _, _, _, a1, _, _, e, e2, _⟩ := hf; exact ⟨⟨a0, e⟩, ⟨a1, e2⟩⟩
theorem cB_e {h : Hp} {a0 a1 : Nat} {sp dp z : Int32} {K : Hp → Prop} (hf : cB h (some a0) sp (some a1) dp z K) : ∃ w N0 f N1 g, h a0 = some (w, .inl (1, N0, .inl f)) ∧ h a1 = some (true, .inl (1, N1, .inl g)) ∧ (¬ sp < 0 ∧ ¬ dp < 0 ∧ ¬ z < 0) ∧ sp.toNatClampNeg + z.toNatClampNeg ≤ N0 ∧ dp.toNatClampNeg + z.toNatClampNeg ≤ N1 ∧ (∀ i : Nat, i < z.toNatClampNeg → fits .byte (.int (f (sp.toNatClampNeg + i))) = true) ∧ K (hs h a1 (true, .inl (1, N1, .inl (va_cpy f g sp.toNatClampNeg dp.toNatClampNeg z.toNatClampNeg)))) := by
  obtain ⟨b0, w, N0, f, b1, N1, g, e, e2, q⟩ := hf
  cases e; cases e2
  exact ⟨w, N0, f, N1, g, q⟩

