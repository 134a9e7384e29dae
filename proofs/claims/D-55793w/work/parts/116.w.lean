/-! walks printed by tools/mkwalk.py -/
set_option maxRecDepth 100000
abbrev Y_J9_hugeLength : Yt := (yJ9_hugeLength, some (.int), 1, 40, [])
def f_J9_hugeLength (G : Gt) (h : Hp) (i_0 : Int32) (i_1 : Int32) (K : Int32 → Hp → Prop) : Prop :=
((0 ≤ i_0 + i_1 → (((2147483639 : Int32) < i_0 + i_1 → K (i_0 + i_1) h) ∧
(¬ ((2147483639 : Int32) < i_0 + i_1) → K (2147483639 : Int32) h))) ∧
(¬ (0 ≤ i_0 + i_1) → False))
theorem m_J9_hugeLength {G : Gt} {h : Hp} {i_0 : Int32} {i_1 : Int32} {K : Int32 → Hp → Prop} (hG : Base G) (hf : f_J9_hugeLength G h i_0 i_1 K) : MM G Y_J9_hugeLength cJ9_hugeLength 3 0 0 [.int i_0, .int i_1] h (kI K) xN := by
  refine mm_of hG (by decide +kernel) rfl (ac_c rfl (ac_c rfl ac_nil)) (Nat.le_of_ble_eq_true rfl) (fun E _ _ => ?_)
  show V G E Y_J9_hugeLength cJ9_hugeLength 3 (QM G E (kI K) xN) h 0 0 0 [(0, .int i_0), (1, .int i_1)] []
  unfold f_J9_hugeLength at hf
  refine v_iload_n (i := 0) dJ9_hugeLength_0 rfl rfl ?_
  refine v_iload_n (i := 1) dJ9_hugeLength_1 rfl rfl ?_
  refine v_iadd dJ9_hugeLength_2 ?_
  refine v_istore_n (i := 2) (lv' := [(0, .int i_0), (1, .int i_1), (2, .int (i_0 + i_1))]) dJ9_hugeLength_3 rfl (Nat.le_of_ble_eq_true rfl) rfl rfl ?_
  refine v_iload_n (i := 2) dJ9_hugeLength_4 rfl rfl ?_
  refine v_if_ge 49 dJ9_hugeLength_5 (by decide) (fun c1 => ?_) (fun c1 => ?_)
  · replace hf := hf.1 c1
    refine v_iload_n (i := 2) dJ9_hugeLength_49 rfl rfl ?_
    refine v_ldc dJ9_hugeLength_50 q446 ?_
    refine v_icmp_gt 58 dJ9_hugeLength_52 (by decide) (fun c2 => ?_) (fun c2 => ?_)
    · replace hf := hf.1 c2
      refine v_iload_n (i := 2) dJ9_hugeLength_58 rfl rfl ?_
      exact v_iret dJ9_hugeLength_59 rfl ⟨_, rfl, hf⟩
    · replace hf := hf.2 c2
      refine v_ldc dJ9_hugeLength_55 q446 ?_
      exact v_iret dJ9_hugeLength_57 rfl ⟨_, rfl, hf⟩
  · replace hf := hf.2 c1
    exact hf.elim
abbrev Y_J9_newLength : Yt := (yJ9_newLength, some (.int), 2, 62, [])
def f_J9_newLength (G : Gt) (h : Hp) (i_0 : Int32) (i_1 : Int32) (i_2 : Int32) (K : Int32 → Hp → Prop) : Prop :=
f_J10_max G h i_1 i_2 (fun i2 h1 =>
((i_0 + i2 ≤ (0 : Int32) → f_J9_hugeLength G h1 i_0 i_1 (fun i5 h4 =>
K i5 h4)) ∧
(¬ (i_0 + i2 ≤ (0 : Int32)) → (((2147483639 : Int32) < i_0 + i2 → f_J9_hugeLength G h1 i_0 i_1 (fun i8 h7 =>
K i8 h7)) ∧
(¬ ((2147483639 : Int32) < i_0 + i2) → K (i_0 + i2) h1)))))
theorem m_J9_newLength {G : Gt} {h : Hp} {i_0 : Int32} {i_1 : Int32} {i_2 : Int32} {K : Int32 → Hp → Prop} (hG : Base G) (hf : f_J9_newLength G h i_0 i_1 i_2 K) : MM G Y_J9_newLength cJ9_newLength 4 0 0 [.int i_0, .int i_1, .int i_2] h (kI K) xN := by
  refine mm_of hG (by decide +kernel) rfl (ac_c rfl (ac_c rfl (ac_c rfl ac_nil))) (Nat.le_of_ble_eq_true rfl) (fun E _ _ => ?_)
  show V G E Y_J9_newLength cJ9_newLength 4 (QM G E (kI K) xN) h 0 0 0 [(0, .int i_0), (1, .int i_1), (2, .int i_2)] []
  unfold f_J9_newLength at hf
  refine v_iload_n (i := 0) dJ9_newLength_0 rfl rfl ?_
  refine v_iload_n (i := 1) dJ9_newLength_1 rfl rfl ?_
  refine v_iload_n (i := 2) dJ9_newLength_2 rfl rfl ?_
  refine V.addK0 ?_
  refine V.addN0 ?_
  refine v_callS (mc := 0) (ms := 0) 2 dJ9_newLength_3 (m_J10_max hG hf) rfl (lw_S q443 q444 q102 q445) rfl (by decide +kernel) (by decide) rfl (cat_len (Nat.le_of_ble_eq_true rfl)) (kk_I fun i2 h1 hg => ?_) (fun _ _ _ hx => hx.elim)
  replace hf := hg
  clear hg
  refine v_iadd dJ9_newLength_6 ?_
  refine v_istore_n (i := 3) (lv' := [(0, .int i_0), (1, .int i_1), (2, .int i_2), (3, .int (i_0 + i2))]) dJ9_newLength_7 rfl (Nat.le_of_ble_eq_true rfl) rfl rfl ?_
  refine v_iconst (v := 0) dJ9_newLength_8 (by decide) ?_
  refine v_iload_n (i := 3) dJ9_newLength_9 rfl rfl ?_
  refine v_icmp_ge 21 dJ9_newLength_10 (by decide) (fun c3 => ?_) (fun c3 => ?_)
  · replace hf := hf.1 c3
    refine v_iload_n (i := 0) dJ9_newLength_21 rfl rfl ?_
    refine v_iload_n (i := 1) dJ9_newLength_22 rfl rfl ?_
    refine V.addK0 ?_
    refine V.addN0 ?_
    refine v_callS (mc := 0) (ms := 0) 2 dJ9_newLength_23 (m_J9_hugeLength hG hf) rfl (lw_S q447 q448 q101 q449) rfl (by decide +kernel) (by decide) rfl (cat_len (Nat.le_of_ble_eq_true rfl)) (kk_I fun i5 h4 hg => ?_) (fun _ _ _ hx => hx.elim)
    replace hf := hg
    clear hg
    exact v_iret dJ9_newLength_26 rfl ⟨_, rfl, hf⟩
  · replace hf := hf.2 c3
    refine v_iload_n (i := 3) dJ9_newLength_13 rfl rfl ?_
    refine v_ldc dJ9_newLength_14 q446 ?_
    refine v_icmp_gt 21 dJ9_newLength_16 (by decide) (fun c6 => ?_) (fun c6 => ?_)
    · replace hf := hf.1 c6
      refine v_iload_n (i := 0) dJ9_newLength_21 rfl rfl ?_
      refine v_iload_n (i := 1) dJ9_newLength_22 rfl rfl ?_
      refine V.addK0 ?_
      refine V.addN0 ?_
      refine v_callS (mc := 0) (ms := 0) 2 dJ9_newLength_23 (m_J9_hugeLength hG hf) rfl (lw_S q447 q448 q101 q449) rfl (by decide +kernel) (by decide) rfl (cat_len (Nat.le_of_ble_eq_true rfl)) (kk_I fun i8 h7 hg => ?_) (fun _ _ _ hx => hx.elim)
      replace hf := hg
      clear hg
      exact v_iret dJ9_newLength_26 rfl ⟨_, rfl, hf⟩
    · replace hf := hf.2 c6
      refine v_iload_n (i := 3) dJ9_newLength_19 rfl rfl ?_
      exact v_iret dJ9_newLength_20 rfl ⟨_, rfl, hf⟩
abbrev Y_J4_newCapacity : Yt := (yJ4_newCapacity, some (.int), 3, 85, [])
def f_J4_newCapacity (G : Gt) (h : Hp) (t_0 : Option Nat) (i_1 : Int32) (K : Int32 → Hp → Prop) : Prop :=
gR h t_0 13 0 fun r1 =>
aL h r1 fun i11 =>
gI h t_0 13 1 fun i12 =>
gI h t_0 13 1 fun i17 =>
f_J9_newLength G h i11 ((i_1 <<< (i12 &&& 31)) - i11) (i11 + ((2 : Int32) <<< (i17 &&& 31))) (fun i23 h22 =>
((¬ (i23 = (2147483647 : Int32)) → gI h22 t_0 13 1 fun i25 =>
K (i23 >>> (i25 &&& 31)) h22) ∧
(i23 = (2147483647 : Int32) → False)))
theorem m_J4_newCapacity {G : Gt} {h : Hp} {a0 : Nat} {i_1 : Int32} {K : Int32 → Hp → Prop} (hG : Base G) (hf : f_J4_newCapacity G h (some a0) i_1 K) : MM G Y_J4_newCapacity cJ4_newCapacity 6 0 0 [.ref a0, .int i_1] h (kI K) xN := by
  refine mm_of hG (by decide +kernel) rfl (ac_c rfl (ac_c rfl ac_nil)) (Nat.le_of_ble_eq_true rfl) (fun E _ _ => ?_)
  show V G E Y_J4_newCapacity cJ4_newCapacity 6 (QM G E (kI K) xN) h 0 0 0 [(0, .ref a0), (1, .int i_1)] []
  unfold f_J4_newCapacity at hf
  refine v_qload_n (r := (some a0)) (i := 0) dJ4_newCapacity_0 rfl rfl ?_
  replace hf := gR_e hf
  obtain ⟨w2, fs3, r1, hh4, hk5, hf⟩ := hf
  refine v_getf (T := TJ5) (ci := 13) 0 dJ4_newCapacity_1 q259 rfl in_J5 (Nat.le_of_ble_eq_true rfl) (Or.inl rfl) hh4 hk5 ?_
  obtain ⟨a6, rfl⟩ := aL_s hf
  replace hf := aL_e hf
  obtain ⟨w7, t8, x9, hh10, i11, ei11, hf⟩ := hf
  refine v_alen dJ4_newCapacity_4 hh10 ei11.symm ?_
  refine v_istore_n (i := 2) (lv' := [(0, va_rf (some a0)), (1, .int i_1), (2, .int i11)]) dJ4_newCapacity_5 rfl (Nat.le_of_ble_eq_true rfl) rfl rfl ?_
  refine v_iload_n (i := 1) dJ4_newCapacity_6 rfl rfl ?_
  refine v_qload_n (r := (some a0)) (i := 0) dJ4_newCapacity_7 rfl rfl ?_
  replace hf := gI_e hf
  obtain ⟨w13, fs14, i12, hh15, hk16, hf⟩ := hf
  refine v_getf (T := TJ5) (ci := 13) 1 dJ4_newCapacity_8 q260 rfl in_J5 (Nat.le_of_ble_eq_true rfl) (Or.inl rfl) hh15 hk16 ?_
  refine v_ishl dJ4_newCapacity_11 ?_
  refine v_istore_n (i := 3) (lv' := [(0, va_rf (some a0)), (1, .int i_1), (2, .int i11), (3, .int (i_1 <<< (i12 &&& 31)))]) dJ4_newCapacity_12 rfl (Nat.le_of_ble_eq_true rfl) rfl rfl ?_
  refine v_iload_n (i := 3) dJ4_newCapacity_13 rfl rfl ?_
  refine v_iload_n (i := 2) dJ4_newCapacity_14 rfl rfl ?_
  refine v_isub dJ4_newCapacity_15 ?_
  refine v_istore (i := 4) (lv' := [(0, va_rf (some a0)), (1, .int i_1), (2, .int i11), (3, .int (i_1 <<< (i12 &&& 31))), (4, .int ((i_1 <<< (i12 &&& 31)) - i11))]) dJ4_newCapacity_16 (Nat.le_of_ble_eq_true rfl) rfl rfl ?_
  refine v_iload_n (i := 2) dJ4_newCapacity_18 rfl rfl ?_
  refine v_iload (i := 4) dJ4_newCapacity_19 rfl ?_
  refine v_iload_n (i := 2) dJ4_newCapacity_21 rfl rfl ?_
  refine v_iconst (v := 2) dJ4_newCapacity_22 (by decide) ?_
  refine v_qload_n (r := (some a0)) (i := 0) dJ4_newCapacity_23 rfl rfl ?_
  replace hf := gI_e hf
  obtain ⟨w18, fs19, i17, hh20, hk21, hf⟩ := hf
  refine v_getf (T := TJ5) (ci := 13) 1 dJ4_newCapacity_24 q260 rfl in_J5 (Nat.le_of_ble_eq_true rfl) (Or.inl rfl) hh20 hk21 ?_
  refine v_ishl dJ4_newCapacity_27 ?_
  refine v_iadd dJ4_newCapacity_28 ?_
  refine V.addK0 ?_
  refine V.addN0 ?_
  refine v_callS (mc := 0) (ms := 0) 3 dJ4_newCapacity_29 (m_J9_newLength hG hf) rfl (lw_S q1993 q441 q101 q442) rfl (by decide +kernel) (by decide) rfl (cat_len (Nat.le_of_ble_eq_true rfl)) (kk_I fun i23 h22 hg => ?_) (fun _ _ _ hx => hx.elim)
  replace hf := hg
  clear hg
  refine v_istore (i := 5) (lv' := [(0, va_rf (some a0)), (1, .int i_1), (2, .int i11), (3, .int (i_1 <<< (i12 &&& 31))), (4, .int ((i_1 <<< (i12 &&& 31)) - i11)), (5, .int i23)]) dJ4_newCapacity_32 (Nat.le_of_ble_eq_true rfl) rfl rfl ?_
  refine v_iload (i := 5) dJ4_newCapacity_34 rfl ?_
  refine v_ldc dJ4_newCapacity_36 q1994 ?_
  refine v_icmp_ne 51 dJ4_newCapacity_38 (by decide) (fun c24 => ?_) (fun c24 => ?_)
  · replace hf := hf.1 c24
    refine v_iload (i := 5) dJ4_newCapacity_51 rfl ?_
    refine v_qload_n (r := (some a0)) (i := 0) dJ4_newCapacity_53 rfl rfl ?_
    replace hf := gI_e hf
    obtain ⟨w26, fs27, i25, hh28, hk29, hf⟩ := hf
    refine v_getf (T := TJ5) (ci := 13) 1 dJ4_newCapacity_54 q260 rfl in_J5 (Nat.le_of_ble_eq_true rfl) (Or.inl rfl) hh28 hk29 ?_
    refine v_ishr dJ4_newCapacity_57 ?_
    exact v_iret dJ4_newCapacity_58 rfl ⟨_, rfl, hf⟩
  · replace hf := hf.2 c24
    exact hf.elim
abbrev Y_J11_copyOf_4 : Yt := (yJ11_copyOf_4, some (.array (.byte)), 2, 61, [])
def f_J11_copyOf_4 (G : Gt) (h : Hp) (r_0 : Option Nat) (i_1 : Int32) (K : Option Nat → Hp → Prop) : Prop :=
aL h r_0 fun i6 =>
((¬ (i_1 = i6) → nD i_1 100 fun N10 =>
nA h 1 (N10, .inl (fun _ => 0)) fun a8 h9 =>
aL h9 r_0 fun i15 =>
f_J10_min G h9 i15 i_1 (fun i17 h16 =>
cB h16 r_0 (0 : Int32) (some a8) (0 : Int32) i17 fun h29 =>
K (some a8) h29)) ∧
(i_1 = i6 → False))
theorem m_J11_copyOf_4 {G : Gt} {h : Hp} {r_0 : Option Nat} {i_1 : Int32} {K : Option Nat → Hp → Prop} (hG : Base G) (hf : f_J11_copyOf_4 G h r_0 i_1 K) : MM G Y_J11_copyOf_4 cJ11_copyOf_4 3 1 100 [va_rf r_0, .int i_1] h (kR K) xN := by
  refine mm_of hG (by decide +kernel) rfl (ac_c (rf_cat _) (ac_c rfl ac_nil)) (Nat.le_of_ble_eq_true rfl) (fun E _ _ => ?_)
  show V G E Y_J11_copyOf_4 cJ11_copyOf_4 3 (QM G E (kR K) xN) h 1 100 0 [(0, va_rf r_0), (1, .int i_1)] []
  unfold f_J11_copyOf_4 at hf
  refine v_iload_n (i := 1) dJ11_copyOf_4_0 rfl rfl ?_
  refine v_qload_n (r := r_0) (i := 0) dJ11_copyOf_4_1 rfl rfl ?_
  obtain ⟨a1, rfl⟩ := aL_s hf
  replace hf := aL_e hf
  obtain ⟨w2, t3, x4, hh5, i6, ei6, hf⟩ := hf
  refine v_alen dJ11_copyOf_4_2 hh5 ei6.symm ?_
  refine v_icmp_ne 14 dJ11_copyOf_4_3 (by decide) (fun c7 => ?_) (fun c7 => ?_)
  · replace hf := hf.1 c7
    refine v_iload_n (i := 1) dJ11_copyOf_4_14 rfl rfl ?_
    obtain ⟨N10, hzN10, hbN10, hf⟩ := hf
    refine V.weakN (b := 100) hbN10 ?_
    refine v_newa (t := 1) (N := N10) (x := (N10, .inl (fun _ => 0))) dJ11_copyOf_4_15 (Nat.le_of_ble_eq_true rfl) rfl q273 (fun _ => rfl) hzN10 (Nat.le_trans (Nat.mul_le_mul_right _ hbN10) (Nat.le_of_ble_eq_true rfl)) (fun a8 ha8 => ?_)
    replace hf := hf a8 ha8
    obtain ⟨h9, eh9⟩ : ∃ z, z = hs h a8 (true, .inl (1, (N10, .inl (fun _ => 0)))) := ⟨_, rfl⟩
    try rw [← eh9] at hf
    rw [← eh9]
    refine v_astore_n (i := 2) (lv' := [(0, va_rf (some a1)), (1, .int i_1), (2, .ref a8)]) dJ11_copyOf_4_17 rfl (Nat.le_of_ble_eq_true rfl) rfl rfl ?_
    refine v_qload_n (r := (some a1)) (i := 0) dJ11_copyOf_4_18 rfl rfl ?_
    refine v_iconst (v := 0) dJ11_copyOf_4_19 (by decide) ?_
    refine v_aload_n (i := 2) dJ11_copyOf_4_20 rfl rfl ?_
    refine v_iconst (v := 0) dJ11_copyOf_4_21 (by decide) ?_
    refine v_qload_n (r := (some a1)) (i := 0) dJ11_copyOf_4_22 rfl rfl ?_
    replace hf := aL_e hf
    obtain ⟨w11, t12, x13, hh14, i15, ei15, hf⟩ := hf
    refine v_alen dJ11_copyOf_4_23 hh14 ei15.symm ?_
    refine v_iload_n (i := 1) dJ11_copyOf_4_24 rfl rfl ?_
    refine V.addK0 ?_
    refine V.addN0 ?_
    refine v_callS (mc := 0) (ms := 0) 2 dJ11_copyOf_4_25 (m_J10_min hG hf) rfl (lw_S q492 q493 q102 q494) rfl (by decide +kernel) (by decide) rfl (cat_len (Nat.le_of_ble_eq_true rfl)) (kk_I fun i17 h16 hg => ?_) (fun _ _ _ hx => hx.elim)
    replace hf := hg
    clear hg
    replace hf := cB_e hf
    obtain ⟨w18, N19, f20, N21, g22, hh23, hh24, hp25, hq26, hq27, hq28, hf⟩ := hf
    refine v_copyB dJ11_copyOf_4_28 q495 q497 q496 q104 hh23 hh24 hp25.1 hp25.2.1 hp25.2.2 hq26 hq27 hq28 (cat_len (Nat.le_of_ble_eq_true rfl)) (Nat.le_of_ble_eq_true rfl) (Nat.le_of_ble_eq_true rfl) ?_
    obtain ⟨h29, eh29⟩ : ∃ z, z = hs h16 a8 (true, .inl (1, N21, .inl (va_cpy f20 g22 ((0 : Int32)).toNatClampNeg ((0 : Int32)).toNatClampNeg (i17).toNatClampNeg))) := ⟨_, rfl⟩
    try rw [← eh29] at hf
    rw [← eh29]
    refine v_aload_n (i := 2) dJ11_copyOf_4_31 rfl rfl ?_
    exact v_qret (r := (some a8)) dJ11_copyOf_4_32 rfl (Or.inr ⟨_, rfl⟩) ⟨_, rfl, hf⟩
  · replace hf := hf.2 c7
    refine v_qload_n (r := (some a1)) (i := 0) dJ11_copyOf_4_6 rfl rfl ?_
    exact hf.elim
abbrev Y_J4_ensureCapacityInternal : Yt := (yJ4_ensureCapacityInternal, none, 4, 110, [])
def f_J4_ensureCapacityInternal (G : Gt) (h : Hp) (t_0 : Option Nat) (i_1 : Int32) (K : Hp → Prop) : Prop :=
gR h t_0 13 0 fun r1 =>
aL h r1 fun i11 =>
gI h t_0 13 1 fun i12 =>
((i_1 - (i11 >>> (i12 &&& 31)) ≤ 0 → K h) ∧
(¬ (i_1 - (i11 >>> (i12 &&& 31)) ≤ 0) → gR h t_0 13 0 fun r18 =>
rv h t_0 13 (f_J4_newCapacity G h t_0 i_1 (fun i27 h26 =>
gI h26 t_0 13 1 fun i28 =>
f_J11_copyOf_4 G h26 r18 (i27 <<< (i28 &&& 31)) (fun r34 h33 =>
pF h33 t_0 13 0 (va_rf r34) fun h37 =>
K h37)))))
theorem m_J4_ensureCapacityInternal {G : Gt} {h : Hp} {a0 : Nat} {i_1 : Int32} {K : Hp → Prop} (hG : Base G) (hf : f_J4_ensureCapacityInternal G h (some a0) i_1 K) : MM G Y_J4_ensureCapacityInternal cJ4_ensureCapacityInternal 3 1 100 [.ref a0, .int i_1] h (kV K) xN := by
  refine mm_of hG (by decide +kernel) rfl (ac_c rfl (ac_c rfl ac_nil)) (Nat.le_of_ble_eq_true rfl) (fun E _ _ => ?_)
  show V G E Y_J4_ensureCapacityInternal cJ4_ensureCapacityInternal 3 (QM G E (kV K) xN) h 1 100 0 [(0, .ref a0), (1, .int i_1)] []
  unfold f_J4_ensureCapacityInternal at hf
  refine v_qload_n (r := (some a0)) (i := 0) dJ4_ensureCapacityInternal_0 rfl rfl ?_
  replace hf := gR_e hf
  obtain ⟨w2, fs3, r1, hh4, hk5, hf⟩ := hf
  refine v_getf (T := TJ5) (ci := 13) 0 dJ4_ensureCapacityInternal_1 q259 rfl in_J5 (Nat.le_of_ble_eq_true rfl) (Or.inl rfl) hh4 hk5 ?_
  obtain ⟨a6, rfl⟩ := aL_s hf
  replace hf := aL_e hf
  obtain ⟨w7, t8, x9, hh10, i11, ei11, hf⟩ := hf
  refine v_alen dJ4_ensureCapacityInternal_4 hh10 ei11.symm ?_
  refine v_qload_n (r := (some a0)) (i := 0) dJ4_ensureCapacityInternal_5 rfl rfl ?_
  replace hf := gI_e hf
  obtain ⟨w13, fs14, i12, hh15, hk16, hf⟩ := hf
  refine v_getf (T := TJ5) (ci := 13) 1 dJ4_ensureCapacityInternal_6 q260 rfl in_J5 (Nat.le_of_ble_eq_true rfl) (Or.inl rfl) hh15 hk16 ?_
  refine v_ishr dJ4_ensureCapacityInternal_9 ?_
  refine v_istore_n (i := 2) (lv' := [(0, va_rf (some a0)), (1, .int i_1), (2, .int (i11 >>> (i12 &&& 31)))]) dJ4_ensureCapacityInternal_10 rfl (Nat.le_of_ble_eq_true rfl) rfl rfl ?_
  refine v_iload_n (i := 1) dJ4_ensureCapacityInternal_11 rfl rfl ?_
  refine v_iload_n (i := 2) dJ4_ensureCapacityInternal_12 rfl rfl ?_
  refine v_isub dJ4_ensureCapacityInternal_13 ?_
  refine v_if_le 38 dJ4_ensureCapacityInternal_14 (by decide) (fun c17 => ?_) (fun c17 => ?_)
  · replace hf := hf.1 c17
    exact v_vret dJ4_ensureCapacityInternal_38 rfl ⟨rfl, hf⟩
  · replace hf := hf.2 c17
    refine v_qload_n (r := (some a0)) (i := 0) dJ4_ensureCapacityInternal_17 rfl rfl ?_
    refine v_qload_n (r := (some a0)) (i := 0) dJ4_ensureCapacityInternal_18 rfl rfl ?_
    replace hf := gR_e hf
    obtain ⟨w19, fs20, r18, hh21, hk22, hf⟩ := hf
    refine v_getf (T := TJ5) (ci := 13) 0 dJ4_ensureCapacityInternal_19 q259 rfl in_J5 (Nat.le_of_ble_eq_true rfl) (Or.inl rfl) hh21 hk22 ?_
    refine v_qload_n (r := (some a0)) (i := 0) dJ4_ensureCapacityInternal_22 rfl rfl ?_
    refine v_iload_n (i := 1) dJ4_ensureCapacityInternal_23 rfl rfl ?_
    replace hf := rv_e hf
    obtain ⟨w23, fs24, hh25, hf⟩ := hf
    refine V.addK0 ?_
    refine V.addN0 ?_
    refine v_callP (mc := 0) (ms := 0) 1 dJ4_ensureCapacityInternal_24 (m_J4_newCapacity hG hf) rfl hh25 rfl (lw_meth q1992) q94 q1989 q1991 q1990 q1353 rfl rfl (by decide +kernel) (by decide) rfl (cat_len (Nat.le_of_ble_eq_true rfl)) (kk_I fun i27 h26 hg => ?_) (fun _ _ _ hx => hx.elim)
    replace hf := hg
    clear hg
    refine v_qload_n (r := (some a0)) (i := 0) dJ4_ensureCapacityInternal_27 rfl rfl ?_
    replace hf := gI_e hf
    obtain ⟨w29, fs30, i28, hh31, hk32, hf⟩ := hf
    refine v_getf (T := TJ5) (ci := 13) 1 dJ4_ensureCapacityInternal_28 q260 rfl in_J5 (Nat.le_of_ble_eq_true rfl) (Or.inl rfl) hh31 hk32 ?_
    refine v_ishl dJ4_ensureCapacityInternal_31 ?_
    refine v_callS (mc := 1) (ms := 100) 2 dJ4_ensureCapacityInternal_32 (m_J11_copyOf_4 hG hf) rfl (lw_S q1995 q1996 q103 q1997) rfl (by decide +kernel) (by decide) rfl (cat_len (Nat.le_of_ble_eq_true rfl)) (kk_R fun r34 h33 hg => ?_) (fun _ _ _ hx => hx.elim)
    replace hf := hg
    clear hg
    replace hf := pF_e hf
    obtain ⟨fs35, hh36, hf⟩ := hf
    refine v_putf (v := va_rf r34) (T := TJ5) (ci := 13) (ty := .array (.byte)) 0 dJ4_ensureCapacityInternal_35 q259 rfl in_J5 tyJ5 tyJ5_ok nmJ5 (Nat.le_of_ble_eq_true rfl) (Or.inl rfl) rfl (by decide +kernel) (rf_narA _ _) (rf_fitA _ _) hh36 ?_
    obtain ⟨h37, eh37⟩ : ∃ z, z = hs h33 a0 (true, .inr (13, fs35.set 0 (va_rf r34))) := ⟨_, rfl⟩
    try rw [← eh37] at hf
    rw [← eh37]
    exact v_vret dJ4_ensureCapacityInternal_38 rfl ⟨rfl, hf⟩
abbrev Y_J4_isLatin1 : Yt := (yJ4_isLatin1, some (.boolean), 1, 40, [])
def f_J4_isLatin1 (G : Gt) (h : Hp) (t_0 : Option Nat) (K : Int32 → Hp → Prop) : Prop :=
(((1 : Int32) = 0 → K (0 : Int32) h) ∧
(¬ ((1 : Int32) = 0) → gI h t_0 13 1 fun i2 =>
((¬ (i2 = 0) → K (0 : Int32) h) ∧
(i2 = 0 → K (1 : Int32) h))))
theorem m_J4_isLatin1 {G : Gt} {h : Hp} {a0 : Nat} {K : Int32 → Hp → Prop} (hG : Base G) (hf : f_J4_isLatin1 G h (some a0) K) : MM G Y_J4_isLatin1 cJ4_isLatin1 1 0 0 [.ref a0] h (kI K) xN := by
  refine mm_of hG (by decide +kernel) rfl (ac_c rfl ac_nil) (Nat.le_of_ble_eq_true rfl) (fun E _ _ => ?_)
  show V G E Y_J4_isLatin1 cJ4_isLatin1 1 (QM G E (kI K) xN) h 0 0 0 [(0, .ref a0)] []
  unfold f_J4_isLatin1 at hf
  refine v_gets dJ4_isLatin1_0 q250 (List.mem_of_getElem? (i := 0) rfl) (Or.inl rfl) ?_
  refine v_if_eq 17 dJ4_isLatin1_3 (by decide) (fun c1 => ?_) (fun c1 => ?_)
  · replace hf := hf.1 c1
    refine v_iconst (v := 0) dJ4_isLatin1_17 (by decide) ?_
    exact v_zret dJ4_isLatin1_18 rfl (by decide) ⟨_, rfl, hf⟩
  · replace hf := hf.2 c1
    refine v_qload_n (r := (some a0)) (i := 0) dJ4_isLatin1_6 rfl rfl ?_
    replace hf := gI_e hf
    obtain ⟨w3, fs4, i2, hh5, hk6, hf⟩ := hf
    refine v_getf (T := TJ5) (ci := 13) 1 dJ4_isLatin1_7 q260 rfl in_J5 (Nat.le_of_ble_eq_true rfl) (Or.inl rfl) hh5 hk6 ?_
    refine v_if_ne 17 dJ4_isLatin1_10 (by decide) (fun c7 => ?_) (fun c7 => ?_)
    · replace hf := hf.1 c7
      refine v_iconst (v := 0) dJ4_isLatin1_17 (by decide) ?_
      exact v_zret dJ4_isLatin1_18 rfl (by decide) ⟨_, rfl, hf⟩
    · replace hf := hf.2 c7
      refine v_iconst (v := 1) dJ4_isLatin1_13 (by decide) ?_
      refine v_goto 18 dJ4_isLatin1_14 (by decide) ?_
      exact v_zret dJ4_isLatin1_18 rfl (by decide) ⟨_, rfl, hf⟩
abbrev Y_J29_canEncode : Yt := (yJ29_canEncode, some (.boolean), 1, 40, [])
def f_J29_canEncode (G : Gt) (h : Hp) (i_0 : Int32) (K : Int32 → Hp → Prop) : Prop :=
(((255 : Int32) < i_0 → K (0 : Int32) h) ∧
(¬ ((255 : Int32) < i_0) → K (1 : Int32) h))
theorem m_J29_canEncode {G : Gt} {h : Hp} {i_0 : Int32} {K : Int32 → Hp → Prop} (hG : Base G) (hf : f_J29_canEncode G h i_0 K) : MM G Y_J29_canEncode cJ29_canEncode 1 0 0 [.int i_0] h (kI K) xN := by
  refine mm_of hG (by decide +kernel) rfl (ac_c rfl ac_nil) (Nat.le_of_ble_eq_true rfl) (fun E _ _ => ?_)
  show V G E Y_J29_canEncode cJ29_canEncode 1 (QM G E (kI K) xN) h 0 0 0 [(0, .int i_0)] []
  unfold f_J29_canEncode at hf
  refine v_iload_n (i := 0) dJ29_canEncode_0 rfl rfl ?_
  refine v_sipush (v := 255) dJ29_canEncode_1 (by decide) ?_
  refine v_icmp_gt 11 dJ29_canEncode_4 (by decide) (fun c1 => ?_) (fun c1 => ?_)
  · replace hf := hf.1 c1
    refine v_iconst (v := 0) dJ29_canEncode_11 (by decide) ?_
    exact v_zret dJ29_canEncode_12 rfl (by decide) ⟨_, rfl, hf⟩
  · replace hf := hf.2 c1
    refine v_iconst (v := 1) dJ29_canEncode_7 (by decide) ?_
    refine v_goto 12 dJ29_canEncode_8 (by decide) ?_
    exact v_zret dJ29_canEncode_12 rfl (by decide) ⟨_, rfl, hf⟩
abbrev Y_J4_append : Yt := (yJ4_append, some (.object "java/lang/AbstractStringBuilder"), 5, 132, [])
def f_J4_append (G : Gt) (h : Hp) (t_0 : Option Nat) (i_1 : Int32) (K : Option Nat → Hp → Prop) : Prop :=
gI h t_0 13 3 fun i1 =>
rv h t_0 13 (f_J4_ensureCapacityInternal G h t_0 (i1 + (1 : Int32)) (fun h9 =>
rv h9 t_0 13 (f_J4_isLatin1 G h9 t_0 (fun i14 h13 =>
((i14 = 0 → rv h13 t_0 13 (f_J4_isLatin1 G h13 t_0 (fun i20 h19 =>
((i20 = 0 → gR h19 t_0 13 0 fun r22 =>
gI h19 t_0 13 3 fun i27 =>
pF h19 t_0 13 3 (.int (i27 + (1 : Int32))) fun h34 =>
False) ∧
(¬ (i20 = 0) → False))))) ∧
(¬ (i14 = 0) → f_J29_canEncode G h13 i_1 (fun i36 h35 =>
((i36 = 0 → rv h35 t_0 13 (f_J4_isLatin1 G h35 t_0 (fun i42 h41 =>
((i42 = 0 → gR h41 t_0 13 0 fun r44 =>
gI h41 t_0 13 3 fun i49 =>
pF h41 t_0 13 3 (.int (i49 + (1 : Int32))) fun h56 =>
False) ∧
(¬ (i42 = 0) → False))))) ∧
(¬ (i36 = 0) → gR h35 t_0 13 0 fun r57 =>
gI h35 t_0 13 3 fun i62 =>
pF h35 t_0 13 3 (.int (i62 + (1 : Int32))) fun h69 =>
sB h69 r57 i62 i_1.toInt8.toInt32 fun h75 =>
K t_0 h75)))))))))
theorem m_J4_append {G : Gt} {h : Hp} {a0 : Nat} {i_1 : Int32} {K : Option Nat → Hp → Prop} (hG : Base G) (hf : f_J4_append G h (some a0) i_1 K) : MM G Y_J4_append cJ4_append 2 1 100 [.ref a0, .int i_1] h (kR K) xN := by
  refine mm_of hG (by decide +kernel) rfl (ac_c rfl (ac_c rfl ac_nil)) (Nat.le_of_ble_eq_true rfl) (fun E _ _ => ?_)
  show V G E Y_J4_append cJ4_append 2 (QM G E (kR K) xN) h 1 100 0 [(0, .ref a0), (1, .int i_1)] []
  unfold f_J4_append at hf
  refine v_qload_n (r := (some a0)) (i := 0) dJ4_append_0 rfl rfl ?_
  refine v_qload_n (r := (some a0)) (i := 0) dJ4_append_1 rfl rfl ?_
  replace hf := gI_e hf
  obtain ⟨w2, fs3, i1, hh4, hk5, hf⟩ := hf
  refine v_getf (T := TJ5) (ci := 13) 3 dJ4_append_2 q263 rfl in_J5 (Nat.le_of_ble_eq_true rfl) (Or.inl rfl) hh4 hk5 ?_
  refine v_iconst (v := 1) dJ4_append_5 (by decide) ?_
  refine v_iadd dJ4_append_6 ?_
  replace hf := rv_e hf
  obtain ⟨w6, fs7, hh8, hf⟩ := hf
  refine v_callP (mc := 1) (ms := 100) 1 dJ4_append_7 (m_J4_ensureCapacityInternal hG hf) rfl hh8 rfl (lw_meth q1988) q94 q1985 q1987 q1986 q1353 rfl rfl (by decide +kernel) (by decide) rfl (cat_len (Nat.le_of_ble_eq_true rfl)) (kk_V fun h9 hg => ?_) (fun _ _ _ hx => hx.elim)
  replace hf := hg
  clear hg
  refine v_qload_n (r := (some a0)) (i := 0) dJ4_append_10 rfl rfl ?_
  replace hf := rv_e hf
  obtain ⟨w10, fs11, hh12, hf⟩ := hf
  refine V.addK0 ?_
  refine V.addN0 ?_
  refine v_callU (mc := 0) (ms := 0) 0 dJ4_append_11 (m_J4_isLatin1 hG hf) rfl hh12 rfl (lw_U q1350 q1352 q1353 q1351 q94 q1354) rfl rfl (by decide +kernel) (by decide) rfl (cat_len (Nat.le_of_ble_eq_true rfl)) (kk_I fun i14 h13 hg => ?_) (fun _ _ _ hx => hx.elim)
  replace hf := hg
  clear hg
  refine v_if_eq 45 dJ4_append_14 (by decide) (fun c15 => ?_) (fun c15 => ?_)
  · replace hf := hf.1 c15
    refine v_qload_n (r := (some a0)) (i := 0) dJ4_append_45 rfl rfl ?_
    replace hf := rv_e hf
    obtain ⟨w16, fs17, hh18, hf⟩ := hf
    refine V.addK0 ?_
    refine V.addN0 ?_
    refine v_callU (mc := 0) (ms := 0) 0 dJ4_append_46 (m_J4_isLatin1 hG hf) rfl hh18 rfl (lw_U q1350 q1352 q1353 q1351 q94 q1354) rfl rfl (by decide +kernel) (by decide) rfl (cat_len (Nat.le_of_ble_eq_true rfl)) (kk_I fun i20 h19 hg => ?_) (fun _ _ _ hx => hx.elim)
    replace hf := hg
    clear hg
    refine v_if_eq 56 dJ4_append_49 (by decide) (fun c21 => ?_) (fun c21 => ?_)
    · replace hf := hf.1 c21
      refine v_qload_n (r := (some a0)) (i := 0) dJ4_append_56 rfl rfl ?_
      replace hf := gR_e hf
      obtain ⟨w23, fs24, r22, hh25, hk26, hf⟩ := hf
      refine v_getf (T := TJ5) (ci := 13) 0 dJ4_append_57 q259 rfl in_J5 (Nat.le_of_ble_eq_true rfl) (Or.inl rfl) hh25 hk26 ?_
      refine v_qload_n (r := (some a0)) (i := 0) dJ4_append_60 rfl rfl ?_
      refine v_dup dJ4_append_61 (rf_cat _) ?_
      replace hf := gI_e hf
      obtain ⟨w28, fs29, i27, hh30, hk31, hf⟩ := hf
      refine v_getf (T := TJ5) (ci := 13) 3 dJ4_append_62 q263 rfl in_J5 (Nat.le_of_ble_eq_true rfl) (Or.inl rfl) hh30 hk31 ?_
      refine v_dup_x1 dJ4_append_65 rfl (rf_cat _) ?_
      refine v_iconst (v := 1) dJ4_append_66 (by decide) ?_
      refine v_iadd dJ4_append_67 ?_
      replace hf := pF_e hf
      obtain ⟨fs32, hh33, hf⟩ := hf
      refine v_putf (v := .int (i27 + (1 : Int32))) (T := TJ5) (ci := 13) (ty := .int) 3 dJ4_append_68 q263 rfl in_J5 tyJ5 tyJ5_ok nmJ5 (Nat.le_of_ble_eq_true rfl) (Or.inl rfl) rfl (by decide +kernel) rfl rfl hh33 ?_
      obtain ⟨h34, eh34⟩ : ∃ z, z = hs h19 a0 (true, .inr (13, fs32.set 3 (.int (i27 + (1 : Int32))))) := ⟨_, rfl⟩
      try rw [← eh34] at hf
      rw [← eh34]
      refine v_iload_n (i := 1) dJ4_append_71 rfl rfl ?_
      exact hf.elim
    · replace hf := hf.2 c21
      refine v_qload_n (r := (some a0)) (i := 0) dJ4_append_52 rfl rfl ?_
      exact hf.elim
  · replace hf := hf.2 c15
    refine v_iload_n (i := 1) dJ4_append_17 rfl rfl ?_
    refine V.addK0 ?_
    refine V.addN0 ?_
    refine v_callS (mc := 0) (ms := 0) 1 dJ4_append_18 (m_J29_canEncode hG hf) rfl (lw_S q2003 q2004 q125 q2005) rfl (by decide +kernel) (by decide) rfl (cat_len (Nat.le_of_ble_eq_true rfl)) (kk_I fun i36 h35 hg => ?_) (fun _ _ _ hx => hx.elim)
    replace hf := hg
    clear hg
    refine v_if_eq 45 dJ4_append_21 (by decide) (fun c37 => ?_) (fun c37 => ?_)
    · replace hf := hf.1 c37
      refine v_qload_n (r := (some a0)) (i := 0) dJ4_append_45 rfl rfl ?_
      replace hf := rv_e hf
      obtain ⟨w38, fs39, hh40, hf⟩ := hf
      refine V.addK0 ?_
      refine V.addN0 ?_
      refine v_callU (mc := 0) (ms := 0) 0 dJ4_append_46 (m_J4_isLatin1 hG hf) rfl hh40 rfl (lw_U q1350 q1352 q1353 q1351 q94 q1354) rfl rfl (by decide +kernel) (by decide) rfl (cat_len (Nat.le_of_ble_eq_true rfl)) (kk_I fun i42 h41 hg => ?_) (fun _ _ _ hx => hx.elim)
      replace hf := hg
      clear hg
      refine v_if_eq 56 dJ4_append_49 (by decide) (fun c43 => ?_) (fun c43 => ?_)
      · replace hf := hf.1 c43
        refine v_qload_n (r := (some a0)) (i := 0) dJ4_append_56 rfl rfl ?_
        replace hf := gR_e hf
        obtain ⟨w45, fs46, r44, hh47, hk48, hf⟩ := hf
        refine v_getf (T := TJ5) (ci := 13) 0 dJ4_append_57 q259 rfl in_J5 (Nat.le_of_ble_eq_true rfl) (Or.inl rfl) hh47 hk48 ?_
        refine v_qload_n (r := (some a0)) (i := 0) dJ4_append_60 rfl rfl ?_
        refine v_dup dJ4_append_61 (rf_cat _) ?_
        replace hf := gI_e hf
        obtain ⟨w50, fs51, i49, hh52, hk53, hf⟩ := hf
        refine v_getf (T := TJ5) (ci := 13) 3 dJ4_append_62 q263 rfl in_J5 (Nat.le_of_ble_eq_true rfl) (Or.inl rfl) hh52 hk53 ?_
        refine v_dup_x1 dJ4_append_65 rfl (rf_cat _) ?_
        refine v_iconst (v := 1) dJ4_append_66 (by decide) ?_
        refine v_iadd dJ4_append_67 ?_
        replace hf := pF_e hf
        obtain ⟨fs54, hh55, hf⟩ := hf
        refine v_putf (v := .int (i49 + (1 : Int32))) (T := TJ5) (ci := 13) (ty := .int) 3 dJ4_append_68 q263 rfl in_J5 tyJ5 tyJ5_ok nmJ5 (Nat.le_of_ble_eq_true rfl) (Or.inl rfl) rfl (by decide +kernel) rfl rfl hh55 ?_
        obtain ⟨h56, eh56⟩ : ∃ z, z = hs h41 a0 (true, .inr (13, fs54.set 3 (.int (i49 + (1 : Int32))))) := ⟨_, rfl⟩
        try rw [← eh56] at hf
        rw [← eh56]
        refine v_iload_n (i := 1) dJ4_append_71 rfl rfl ?_
        exact hf.elim
      · replace hf := hf.2 c43
        refine v_qload_n (r := (some a0)) (i := 0) dJ4_append_52 rfl rfl ?_
        exact hf.elim
    · replace hf := hf.2 c37
      refine v_qload_n (r := (some a0)) (i := 0) dJ4_append_24 rfl rfl ?_
      replace hf := gR_e hf
      obtain ⟨w58, fs59, r57, hh60, hk61, hf⟩ := hf
      refine v_getf (T := TJ5) (ci := 13) 0 dJ4_append_25 q259 rfl in_J5 (Nat.le_of_ble_eq_true rfl) (Or.inl rfl) hh60 hk61 ?_
      refine v_qload_n (r := (some a0)) (i := 0) dJ4_append_28 rfl rfl ?_
      refine v_dup dJ4_append_29 (rf_cat _) ?_
      replace hf := gI_e hf
      obtain ⟨w63, fs64, i62, hh65, hk66, hf⟩ := hf
      refine v_getf (T := TJ5) (ci := 13) 3 dJ4_append_30 q263 rfl in_J5 (Nat.le_of_ble_eq_true rfl) (Or.inl rfl) hh65 hk66 ?_
      refine v_dup_x1 dJ4_append_33 rfl (rf_cat _) ?_
      refine v_iconst (v := 1) dJ4_append_34 (by decide) ?_
      refine v_iadd dJ4_append_35 ?_
      replace hf := pF_e hf
      obtain ⟨fs67, hh68, hf⟩ := hf
      refine v_putf (v := .int (i62 + (1 : Int32))) (T := TJ5) (ci := 13) (ty := .int) 3 dJ4_append_36 q263 rfl in_J5 tyJ5 tyJ5_ok nmJ5 (Nat.le_of_ble_eq_true rfl) (Or.inl rfl) rfl (by decide +kernel) rfl rfl hh68 ?_
      obtain ⟨h69, eh69⟩ : ∃ z, z = hs h35 a0 (true, .inr (13, fs67.set 3 (.int (i62 + (1 : Int32))))) := ⟨_, rfl⟩
      try rw [← eh69] at hf
      rw [← eh69]
      refine v_iload_n (i := 1) dJ4_append_39 rfl rfl ?_
      refine v_i2b (v := i_1.toInt8.toInt32) dJ4_append_40 rfl ?_
      obtain ⟨a70, rfl⟩ := sB_s hf
      replace hf := sB_e hf
      obtain ⟨N71, f72, hh73, hi74, hf⟩ := hf
      refine v_bast dJ4_append_41 hh73 hi74 ?_
      obtain ⟨h75, eh75⟩ : ∃ z, z = hs h69 a70 (true, .inl (1, N71, .inl (upd f72 (i62).toNatClampNeg (vp_nar .byte (i_1.toInt8.toInt32))))) := ⟨_, rfl⟩
      try rw [← eh75] at hf
      rw [← eh75]
      refine v_goto 75 dJ4_append_42 (by decide) ?_
      refine v_qload_n (r := (some a0)) (i := 0) dJ4_append_75 rfl rfl ?_
      exact v_qret (r := (some a0)) dJ4_append_76 rfl (Or.inl ⟨_, rfl⟩) ⟨_, rfl, hf⟩
abbrev Y_J5_append : Yt := (yJ5_append, some (.object "java/lang/StringBuilder"), 6, 153, [])
def f_J5_append (G : Gt) (h : Hp) (t_0 : Option Nat) (i_1 : Int32) (K : Option Nat → Hp → Prop) : Prop :=
rv h t_0 13 (f_J4_append G h t_0 i_1 (fun r5 h4 =>
K t_0 h4))
theorem m_J5_append {G : Gt} {h : Hp} {a0 : Nat} {i_1 : Int32} {K : Option Nat → Hp → Prop} (hG : Base G) (hf : f_J5_append G h (some a0) i_1 K) : MM G Y_J5_append cJ5_append 2 1 100 [.ref a0, .int i_1] h (kR K) xN := by
  refine mm_of hG (by decide +kernel) rfl (ac_c rfl (ac_c rfl ac_nil)) (Nat.le_of_ble_eq_true rfl) (fun E _ _ => ?_)
  show V G E Y_J5_append cJ5_append 2 (QM G E (kR K) xN) h 1 100 0 [(0, .ref a0), (1, .int i_1)] []
  unfold f_J5_append at hf
  refine v_qload_n (r := (some a0)) (i := 0) dJ5_append_0 rfl rfl ?_
  refine v_iload_n (i := 1) dJ5_append_1 rfl rfl ?_
  replace hf := rv_e hf
  obtain ⟨w1, fs2, hh3, hf⟩ := hf
  refine v_callSU (mc := 1) (ms := 100) 1 dJ5_append_2 (m_J4_append hG hf) rfl hh3 rfl (lw_SU q1982 q2867 q272 q1983 q94 q1984) rfl (by decide +kernel) (by decide) rfl (cat_len (Nat.le_of_ble_eq_true rfl)) (kk_R fun r5 h4 hg => ?_) (fun _ _ _ hx => hx.elim)
  replace hf := hg
  clear hg
  refine v_pop dJ5_append_5 (rf_cat _) ?_
  refine v_qload_n (r := (some a0)) (i := 0) dJ5_append_6 rfl rfl ?_
  exact v_qret (r := (some a0)) dJ5_append_7 rfl (Or.inl ⟨_, rfl⟩) ⟨_, rfl, hf⟩
abbrev Y_J25_stringSize : Yt := (yJ25_stringSize, some (.int), 1, 40, [])
def g_J25_stringSize_0 (G : Gt) (E : Ev) (h : Hp) (k n : Nat) (i_0 : Int32) (K : Int32 → Hp → Prop) : Prop :=
((i_0 < 0 → V G E Y_J25_stringSize cJ25_stringSize 4 (QM G E (kI K) xN) h k n 16 [(0, .int i_0), (1, .int (1 : Int32)), (2, .int (-10 : Int32)), (3, .int (1 : Int32))] []) ∧
(¬ (i_0 < 0) → V G E Y_J25_stringSize cJ25_stringSize 4 (QM G E (kI K) xN) h k n 16 [(0, .int (-i_0)), (1, .int (0 : Int32)), (2, .int (-10 : Int32)), (3, .int (1 : Int32))] []))
theorem s_J25_stringSize_0 {G : Gt} {E : Ev} {h : Hp} {k0 n0 : Nat} {i_0 : Int32} {K : Int32 → Hp → Prop} (hG : Base G) (hA : 0 ≤ k0) (hB : 0 ≤ n0) (hf : g_J25_stringSize_0 G E h (k0 - 0) (n0 - 0) i_0 K) : V G E Y_J25_stringSize cJ25_stringSize 4 (QM G E (kI K) xN) h k0 n0 0 [(0, .int i_0)] [] := by
  obtain ⟨k, hk9⟩ : ∃ z, z = k0 - 0 := ⟨_, rfl⟩
  obtain ⟨n, hn9⟩ : ∃ z, z = n0 - 0 := ⟨_, rfl⟩
  rw [← hk9, ← hn9] at hf
  refine V.weak (k' := k + 0) (n' := n + 0) ?_ (by omega) (by omega)
  unfold g_J25_stringSize_0 at hf
  refine v_iconst (v := 1) dJ25_stringSize_0 (by decide) ?_
  refine v_istore_n (i := 1) (lv' := [(0, .int i_0), (1, .int (1 : Int32))]) dJ25_stringSize_1 rfl (Nat.le_of_ble_eq_true rfl) rfl rfl ?_
  refine v_iload_n (i := 0) dJ25_stringSize_2 rfl rfl ?_
  refine v_if_lt 11 dJ25_stringSize_3 (by decide) (fun c1 => ?_) (fun c1 => ?_)
  · replace hf := hf.1 c1
    refine v_bipush (v := -10) dJ25_stringSize_11 (by decide) ?_
    refine v_istore_n (i := 2) (lv' := [(0, .int i_0), (1, .int (1 : Int32)), (2, .int (-10 : Int32))]) dJ25_stringSize_13 rfl (Nat.le_of_ble_eq_true rfl) rfl rfl ?_
    refine v_iconst (v := 1) dJ25_stringSize_14 (by decide) ?_
    refine v_istore_n (i := 3) (lv' := [(0, .int i_0), (1, .int (1 : Int32)), (2, .int (-10 : Int32)), (3, .int (1 : Int32))]) dJ25_stringSize_15 rfl (Nat.le_of_ble_eq_true rfl) rfl rfl ?_
    exact V.weak hf (by omega) (by omega)
  · replace hf := hf.2 c1
    refine v_iconst (v := 0) dJ25_stringSize_6 (by decide) ?_
    refine v_istore_n (i := 1) (lv' := [(0, .int i_0), (1, .int (0 : Int32))]) dJ25_stringSize_7 rfl (Nat.le_of_ble_eq_true rfl) rfl rfl ?_
    refine v_iload_n (i := 0) dJ25_stringSize_8 rfl rfl ?_
    refine v_ineg dJ25_stringSize_9 ?_
    refine v_istore_n (i := 0) (lv' := [(0, .int (-i_0)), (1, .int (0 : Int32))]) dJ25_stringSize_10 rfl (Nat.le_of_ble_eq_true rfl) rfl rfl ?_
    refine v_bipush (v := -10) dJ25_stringSize_11 (by decide) ?_
    refine v_istore_n (i := 2) (lv' := [(0, .int (-i_0)), (1, .int (0 : Int32)), (2, .int (-10 : Int32))]) dJ25_stringSize_13 rfl (Nat.le_of_ble_eq_true rfl) rfl rfl ?_
    refine v_iconst (v := 1) dJ25_stringSize_14 (by decide) ?_
    refine v_istore_n (i := 3) (lv' := [(0, .int (-i_0)), (1, .int (0 : Int32)), (2, .int (-10 : Int32)), (3, .int (1 : Int32))]) dJ25_stringSize_15 rfl (Nat.le_of_ble_eq_true rfl) rfl rfl ?_
    exact V.weak hf (by omega) (by omega)
def g_J25_stringSize_16 (G : Gt) (E : Ev) (h : Hp) (k n : Nat) (i_0 : Int32) (i_1 : Int32) (i_2 : Int32) (i_3 : Int32) (K : Int32 → Hp → Prop) : Prop :=
(((10 : Int32) ≤ i_3 → K ((10 : Int32) + i_1) h) ∧
(¬ ((10 : Int32) ≤ i_3) → ((i_0 ≤ i_2 → V G E Y_J25_stringSize cJ25_stringSize 4 (QM G E (kI K) xN) h k n 16 [(0, .int i_0), (1, .int i_1), (2, .int ((10 : Int32) * i_2)), (3, .int (i_3 + (1 : Int32)))] []) ∧
(¬ (i_0 ≤ i_2) → K (i_3 + i_1) h))))
theorem s_J25_stringSize_16 {G : Gt} {E : Ev} {h : Hp} {k0 n0 : Nat} {i_0 : Int32} {i_1 : Int32} {i_2 : Int32} {i_3 : Int32} {K : Int32 → Hp → Prop} (hG : Base G) (hA : 0 ≤ k0) (hB : 0 ≤ n0) (hf : g_J25_stringSize_16 G E h (k0 - 0) (n0 - 0) i_0 i_1 i_2 i_3 K) : V G E Y_J25_stringSize cJ25_stringSize 4 (QM G E (kI K) xN) h k0 n0 16 [(0, .int i_0), (1, .int i_1), (2, .int i_2), (3, .int i_3)] [] := by
  obtain ⟨k, hk9⟩ : ∃ z, z = k0 - 0 := ⟨_, rfl⟩
  obtain ⟨n, hn9⟩ : ∃ z, z = n0 - 0 := ⟨_, rfl⟩
  rw [← hk9, ← hn9] at hf
  refine V.weak (k' := k + 0) (n' := n + 0) ?_ (by omega) (by omega)
  unfold g_J25_stringSize_16 at hf
  refine v_iload_n (i := 3) dJ25_stringSize_16 rfl rfl ?_
  refine v_bipush (v := 10) dJ25_stringSize_17 (by decide) ?_
  refine v_icmp_ge 42 dJ25_stringSize_19 (by decide) (fun c1 => ?_) (fun c1 => ?_)
  · replace hf := hf.1 c1
    refine v_bipush (v := 10) dJ25_stringSize_42 (by decide) ?_
    refine v_iload_n (i := 1) dJ25_stringSize_44 rfl rfl ?_
    refine v_iadd dJ25_stringSize_45 ?_
    exact v_iret dJ25_stringSize_46 rfl ⟨_, rfl, hf⟩
  · replace hf := hf.2 c1
    refine v_iload_n (i := 0) dJ25_stringSize_22 rfl rfl ?_
    refine v_iload_n (i := 2) dJ25_stringSize_23 rfl rfl ?_
    refine v_icmp_le 31 dJ25_stringSize_24 (by decide) (fun c2 => ?_) (fun c2 => ?_)
    · replace hf := hf.1 c2
      refine v_bipush (v := 10) dJ25_stringSize_31 (by decide) ?_
      refine v_iload_n (i := 2) dJ25_stringSize_33 rfl rfl ?_
      refine v_imul dJ25_stringSize_34 ?_
      refine v_istore_n (i := 2) (lv' := [(0, .int i_0), (1, .int i_1), (2, .int ((10 : Int32) * i_2)), (3, .int i_3)]) dJ25_stringSize_35 rfl (Nat.le_of_ble_eq_true rfl) rfl rfl ?_
      refine v_iinc (i := 3) (v := i_3 + (1 : Int32)) (lv' := [(0, .int i_0), (1, .int i_1), (2, .int ((10 : Int32) * i_2)), (3, .int (i_3 + (1 : Int32)))]) dJ25_stringSize_36 rfl rfl (Nat.le_of_ble_eq_true rfl) rfl rfl ?_
      refine v_goto 16 dJ25_stringSize_39 (by decide) ?_
      exact V.weak hf (by omega) (by omega)
    · replace hf := hf.2 c2
      refine v_iload_n (i := 3) dJ25_stringSize_27 rfl rfl ?_
      refine v_iload_n (i := 1) dJ25_stringSize_28 rfl rfl ?_
      refine v_iadd dJ25_stringSize_29 ?_
      exact v_iret dJ25_stringSize_30 rfl ⟨_, rfl, hf⟩
theorem b_J25_stringSize {G : Gt} {h : Hp} {mc ms : Nat} {i_0 : Int32} {K : Int32 → Hp → Prop} (hG : Base G) (hf : ∀ E : Ev, V G E Y_J25_stringSize cJ25_stringSize 4 (QM G E (kI K) xN) h mc ms 0 [(0, .int i_0)] []) : MM G Y_J25_stringSize cJ25_stringSize 4 mc ms [.int i_0] h (kI K) xN := mm_of hG (by decide +kernel) rfl (ac_c rfl ac_nil) (Nat.le_of_ble_eq_true rfl) (fun E _ _ => hf E)
abbrev Y_J25_getChars : Yt := (yJ25_getChars, some (.int), 1, 40, [])
def g_J25_getChars_0 (G : Gt) (E : Ev) (h : Hp) (k n : Nat) (i_0 : Int32) (i_1 : Int32) (r_2 : Option Nat) (K : Int32 → Hp → Prop) : Prop :=
((0 ≤ i_0 → ((¬ ((0 : Int32) = 0) → V G E Y_J25_getChars cJ25_getChars 7 (QM G E (kI K) xN) h k n 22 [(0, .int i_0), (2, va_rf r_2), (5, .int i_1), (6, .int (0 : Int32))] []) ∧
((0 : Int32) = 0 → V G E Y_J25_getChars cJ25_getChars 7 (QM G E (kI K) xN) h k n 22 [(0, .int (-i_0)), (2, va_rf r_2), (5, .int i_1), (6, .int (0 : Int32))] []))) ∧
(¬ (0 ≤ i_0) → ((¬ ((1 : Int32) = 0) → V G E Y_J25_getChars cJ25_getChars 7 (QM G E (kI K) xN) h k n 22 [(0, .int i_0), (2, va_rf r_2), (5, .int i_1), (6, .int (1 : Int32))] []) ∧
((1 : Int32) = 0 → V G E Y_J25_getChars cJ25_getChars 7 (QM G E (kI K) xN) h k n 22 [(0, .int (-i_0)), (2, va_rf r_2), (5, .int i_1), (6, .int (1 : Int32))] []))))
theorem s_J25_getChars_0 {G : Gt} {E : Ev} {h : Hp} {k0 n0 : Nat} {i_0 : Int32} {i_1 : Int32} {r_2 : Option Nat} {K : Int32 → Hp → Prop} (hG : Base G) (hA : 0 ≤ k0) (hB : 0 ≤ n0) (hf : g_J25_getChars_0 G E h (k0 - 0) (n0 - 0) i_0 i_1 r_2 K) : V G E Y_J25_getChars cJ25_getChars 7 (QM G E (kI K) xN) h k0 n0 0 [(0, .int i_0), (1, .int i_1), (2, va_rf r_2)] [] := by
  obtain ⟨k, hk9⟩ : ∃ z, z = k0 - 0 := ⟨_, rfl⟩
  obtain ⟨n, hn9⟩ : ∃ z, z = n0 - 0 := ⟨_, rfl⟩
  rw [← hk9, ← hn9] at hf
  refine V.weak (k' := k + 0) (n' := n + 0) ?_ (by omega) (by omega)
  unfold g_J25_getChars_0 at hf
  refine v_iload_n (i := 1) dJ25_getChars_0 rfl rfl ?_
  refine v_istore (i := 5) (lv' := [(0, .int i_0), (1, .int i_1), (2, va_rf r_2), (5, .int i_1)]) dJ25_getChars_1 (Nat.le_of_ble_eq_true rfl) rfl rfl ?_
  refine v_iload_n (i := 0) dJ25_getChars_3 rfl rfl ?_
  refine v_if_ge 11 dJ25_getChars_4 (by decide) (fun c1 => ?_) (fun c1 => ?_)
  · replace hf := hf.1 c1
    refine v_iconst (v := 0) dJ25_getChars_11 (by decide) ?_
    refine v_istore (i := 6) (lv' := [(0, .int i_0), (1, .int i_1), (2, va_rf r_2), (5, .int i_1), (6, .int (0 : Int32))]) dJ25_getChars_12 (Nat.le_of_ble_eq_true rfl) rfl rfl ?_
    refine v_iload (i := 6) dJ25_getChars_14 rfl ?_
    refine v_if_ne 22 dJ25_getChars_16 (by decide) (fun c2 => ?_) (fun c2 => ?_)
    · replace hf := hf.1 c2
      refine V.lp (lv' := [(0, .int i_0), (2, va_rf r_2), (5, .int i_1), (6, .int (0 : Int32))]) [0, 2, 3, 4] rfl ?_
      exact V.weak hf (by omega) (by omega)
    · replace hf := hf.2 c2
      refine v_iload_n (i := 0) dJ25_getChars_19 rfl rfl ?_
      refine v_ineg dJ25_getChars_20 ?_
      refine v_istore_n (i := 0) (lv' := [(0, .int (-i_0)), (1, .int i_1), (2, va_rf r_2), (5, .int i_1), (6, .int (0 : Int32))]) dJ25_getChars_21 rfl (Nat.le_of_ble_eq_true rfl) rfl rfl ?_
      refine V.lp (lv' := [(0, .int (-i_0)), (2, va_rf r_2), (5, .int i_1), (6, .int (0 : Int32))]) [0, 2, 3, 4] rfl ?_
      exact V.weak hf (by omega) (by omega)
  · replace hf := hf.2 c1
    refine v_iconst (v := 1) dJ25_getChars_7 (by decide) ?_
    refine v_goto 12 dJ25_getChars_8 (by decide) ?_
    refine v_istore (i := 6) (lv' := [(0, .int i_0), (1, .int i_1), (2, va_rf r_2), (5, .int i_1), (6, .int (1 : Int32))]) dJ25_getChars_12 (Nat.le_of_ble_eq_true rfl) rfl rfl ?_
    refine v_iload (i := 6) dJ25_getChars_14 rfl ?_
    refine v_if_ne 22 dJ25_getChars_16 (by decide) (fun c3 => ?_) (fun c3 => ?_)
    · replace hf := hf.1 c3
      refine V.lp (lv' := [(0, .int i_0), (2, va_rf r_2), (5, .int i_1), (6, .int (1 : Int32))]) [0, 2, 3, 4] rfl ?_
      exact V.weak hf (by omega) (by omega)
    · replace hf := hf.2 c3
      refine v_iload_n (i := 0) dJ25_getChars_19 rfl rfl ?_
      refine v_ineg dJ25_getChars_20 ?_
      refine v_istore_n (i := 0) (lv' := [(0, .int (-i_0)), (1, .int i_1), (2, va_rf r_2), (5, .int i_1), (6, .int (1 : Int32))]) dJ25_getChars_21 rfl (Nat.le_of_ble_eq_true rfl) rfl rfl ?_
      refine V.lp (lv' := [(0, .int (-i_0)), (2, va_rf r_2), (5, .int i_1), (6, .int (1 : Int32))]) [0, 2, 3, 4] rfl ?_
      exact V.weak hf (by omega) (by omega)
def g_J25_getChars_22 (G : Gt) (E : Ev) (h : Hp) (k n : Nat) (i_0 : Int32) (r_2 : Option Nat) (i_5 : Int32) (i_6 : Int32) (K : Int32 → Hp → Prop) : Prop :=
(((-100 : Int32) < i_0 → gS (g_r G 5) fun r2 =>
aI h r2 1 (-i_0) fun i9 =>
sB h r_2 (i_5 + (-1 : Int32)) i9 fun h15 =>
(((-9 : Int32) ≤ i_0 → ((i_6 = 0 → K (i_5 + (-1 : Int32)) h15) ∧
(¬ (i_6 = 0) → sB h15 r_2 ((i_5 + (-1 : Int32)) + (-1 : Int32)) (45 : Int32) fun h22 =>
K ((i_5 + (-1 : Int32)) + (-1 : Int32)) h22))) ∧
(¬ ((-9 : Int32) ≤ i_0) → gS (g_r G 4) fun r23 =>
aI h15 r23 1 (-i_0) fun i30 =>
sB h15 r_2 ((i_5 + (-1 : Int32)) + (-1 : Int32)) i30 fun h35 =>
((i_6 = 0 → K ((i_5 + (-1 : Int32)) + (-1 : Int32)) h35) ∧
(¬ (i_6 = 0) → sB h35 r_2 (((i_5 + (-1 : Int32)) + (-1 : Int32)) + (-1 : Int32)) (45 : Int32) fun h41 =>
K (((i_5 + (-1 : Int32)) + (-1 : Int32)) + (-1 : Int32)) h41))))) ∧
(¬ ((-100 : Int32) < i_0) → gS (g_r G 5) fun r42 =>
aI h r42 1 (((i_0 / (100 : Int32)) * (100 : Int32)) - i_0) fun i49 =>
sB h r_2 (i_5 + (-1 : Int32)) i49 fun h55 =>
gS (g_r G 4) fun r56 =>
aI h55 r56 1 (((i_0 / (100 : Int32)) * (100 : Int32)) - i_0) fun i63 =>
sB h55 r_2 ((i_5 + (-1 : Int32)) + (-1 : Int32)) i63 fun h68 =>
V G E Y_J25_getChars cJ25_getChars 7 (QM G E (kI K) xN) h68 k n 22 [(0, .int (i_0 / (100 : Int32))), (2, va_rf r_2), (5, .int ((i_5 + (-1 : Int32)) + (-1 : Int32))), (6, .int i_6)] []))
theorem s_J25_getChars_22 {G : Gt} {E : Ev} {h : Hp} {k0 n0 : Nat} {i_0 : Int32} {r_2 : Option Nat} {i_5 : Int32} {i_6 : Int32} {K : Int32 → Hp → Prop} (hG : Base G) (hA : 0 ≤ k0) (hB : 0 ≤ n0) (hf : g_J25_getChars_22 G E h (k0 - 0) (n0 - 0) i_0 r_2 i_5 i_6 K) : V G E Y_J25_getChars cJ25_getChars 7 (QM G E (kI K) xN) h k0 n0 22 [(0, .int i_0), (2, va_rf r_2), (5, .int i_5), (6, .int i_6)] [] := by
  obtain ⟨k, hk9⟩ : ∃ z, z = k0 - 0 := ⟨_, rfl⟩
  obtain ⟨n, hn9⟩ : ∃ z, z = n0 - 0 := ⟨_, rfl⟩
  rw [← hk9, ← hn9] at hf
  refine V.weak (k' := k + 0) (n' := n + 0) ?_ (by omega) (by omega)
  unfold g_J25_getChars_22 at hf
  refine v_iload_n (i := 0) dJ25_getChars_22 rfl rfl ?_
  refine v_bipush (v := -100) dJ25_getChars_23 (by decide) ?_
  refine v_icmp_gt 72 dJ25_getChars_25 (by decide) (fun c1 => ?_) (fun c1 => ?_)
  · replace hf := hf.1 c1
    refine v_qload_n (r := r_2) (i := 2) dJ25_getChars_72 rfl rfl ?_
    refine v_iinc (i := 5) (v := i_5 + (-1 : Int32)) (lv' := [(0, .int i_0), (2, va_rf r_2), (5, .int (i_5 + (-1 : Int32))), (6, .int i_6)]) dJ25_getChars_73 rfl rfl (Nat.le_of_ble_eq_true rfl) rfl rfl ?_
    refine v_iload (i := 5) dJ25_getChars_76 rfl ?_
    refine v_gets dJ25_getChars_78 q2256 (List.mem_of_getElem? (i := 8) rfl) (Or.inl rfl) ?_
    replace hf := gS_e hf
    obtain ⟨r2, er2, hf⟩ := hf
    rw [← er2]
    refine v_iload_n (i := 0) dJ25_getChars_81 rfl rfl ?_
    refine v_ineg dJ25_getChars_82 ?_
    obtain ⟨a3, rfl⟩ := aI_s hf
    replace hf := aI_e hf
    obtain ⟨w4, N5, f6, hh7, hi8, i9, ei9, hf⟩ := hf
    refine v_bald dJ25_getChars_83 hh7 hi8 ?_
    rw [← ei9]
    obtain ⟨a10, rfl⟩ := sB_s hf
    replace hf := sB_e hf
    obtain ⟨N11, f12, hh13, hi14, hf⟩ := hf
    refine v_bast dJ25_getChars_84 hh13 hi14 ?_
    obtain ⟨h15, eh15⟩ : ∃ z, z = hs h a10 (true, .inl (1, N11, .inl (upd f12 (i_5 + (-1 : Int32)).toNatClampNeg (vp_nar .byte (i9))))) := ⟨_, rfl⟩
    try rw [← eh15] at hf
    rw [← eh15]
    refine v_iload_n (i := 0) dJ25_getChars_85 rfl rfl ?_
    refine v_bipush (v := -9) dJ25_getChars_86 (by decide) ?_
    refine v_icmp_ge 104 dJ25_getChars_88 (by decide) (fun c16 => ?_) (fun c16 => ?_)
    · replace hf := hf.1 c16
      refine v_iload (i := 6) dJ25_getChars_104 rfl ?_
      refine v_if_eq 118 dJ25_getChars_106 (by decide) (fun c17 => ?_) (fun c17 => ?_)
      · replace hf := hf.1 c17
        refine v_iload (i := 5) dJ25_getChars_118 rfl ?_
        exact v_iret dJ25_getChars_120 rfl ⟨_, rfl, hf⟩
      · replace hf := hf.2 c17
        refine v_qload_n (r := (some a10)) (i := 2) dJ25_getChars_109 rfl rfl ?_
        refine v_iinc (i := 5) (v := (i_5 + (-1 : Int32)) + (-1 : Int32)) (lv' := [(0, .int i_0), (2, va_rf (some a10)), (5, .int ((i_5 + (-1 : Int32)) + (-1 : Int32))), (6, .int i_6)]) dJ25_getChars_110 rfl rfl (Nat.le_of_ble_eq_true rfl) rfl rfl ?_
        refine v_iload (i := 5) dJ25_getChars_113 rfl ?_
        refine v_bipush (v := 45) dJ25_getChars_115 (by decide) ?_
        replace hf := sB_e hf
        obtain ⟨N18, f19, hh20, hi21, hf⟩ := hf
        refine v_bast dJ25_getChars_117 hh20 hi21 ?_
        obtain ⟨h22, eh22⟩ : ∃ z, z = hs h15 a10 (true, .inl (1, N18, .inl (upd f19 ((i_5 + (-1 : Int32)) + (-1 : Int32)).toNatClampNeg (vp_nar .byte ((45 : Int32)))))) := ⟨_, rfl⟩
        try rw [← eh22] at hf
        rw [← eh22]
        refine v_iload (i := 5) dJ25_getChars_118 rfl ?_
        exact v_iret dJ25_getChars_120 rfl ⟨_, rfl, hf⟩
    · replace hf := hf.2 c16
      refine v_qload_n (r := (some a10)) (i := 2) dJ25_getChars_91 rfl rfl ?_
      refine v_iinc (i := 5) (v := (i_5 + (-1 : Int32)) + (-1 : Int32)) (lv' := [(0, .int i_0), (2, va_rf (some a10)), (5, .int ((i_5 + (-1 : Int32)) + (-1 : Int32))), (6, .int i_6)]) dJ25_getChars_92 rfl rfl (Nat.le_of_ble_eq_true rfl) rfl rfl ?_
      refine v_iload (i := 5) dJ25_getChars_95 rfl ?_
      refine v_gets dJ25_getChars_97 q2258 (List.mem_of_getElem? (i := 7) rfl) (Or.inl rfl) ?_
      replace hf := gS_e hf
      obtain ⟨r23, er23, hf⟩ := hf
      rw [← er23]
      refine v_iload_n (i := 0) dJ25_getChars_100 rfl rfl ?_
      refine v_ineg dJ25_getChars_101 ?_
      obtain ⟨a24, rfl⟩ := aI_s hf
      replace hf := aI_e hf
      obtain ⟨w25, N26, f27, hh28, hi29, i30, ei30, hf⟩ := hf
      refine v_bald dJ25_getChars_102 hh28 hi29 ?_
      rw [← ei30]
      replace hf := sB_e hf
      obtain ⟨N31, f32, hh33, hi34, hf⟩ := hf
      refine v_bast dJ25_getChars_103 hh33 hi34 ?_
      obtain ⟨h35, eh35⟩ : ∃ z, z = hs h15 a10 (true, .inl (1, N31, .inl (upd f32 ((i_5 + (-1 : Int32)) + (-1 : Int32)).toNatClampNeg (vp_nar .byte (i30))))) := ⟨_, rfl⟩
      try rw [← eh35] at hf
      rw [← eh35]
      refine v_iload (i := 6) dJ25_getChars_104 rfl ?_
      refine v_if_eq 118 dJ25_getChars_106 (by decide) (fun c36 => ?_) (fun c36 => ?_)
      · replace hf := hf.1 c36
        refine v_iload (i := 5) dJ25_getChars_118 rfl ?_
        exact v_iret dJ25_getChars_120 rfl ⟨_, rfl, hf⟩
      · replace hf := hf.2 c36
        refine v_qload_n (r := (some a10)) (i := 2) dJ25_getChars_109 rfl rfl ?_
        refine v_iinc (i := 5) (v := ((i_5 + (-1 : Int32)) + (-1 : Int32)) + (-1 : Int32)) (lv' := [(0, .int i_0), (2, va_rf (some a10)), (5, .int (((i_5 + (-1 : Int32)) + (-1 : Int32)) + (-1 : Int32))), (6, .int i_6)]) dJ25_getChars_110 rfl rfl (Nat.le_of_ble_eq_true rfl) rfl rfl ?_
        refine v_iload (i := 5) dJ25_getChars_113 rfl ?_
        refine v_bipush (v := 45) dJ25_getChars_115 (by decide) ?_
        replace hf := sB_e hf
        obtain ⟨N37, f38, hh39, hi40, hf⟩ := hf
        refine v_bast dJ25_getChars_117 hh39 hi40 ?_
        obtain ⟨h41, eh41⟩ : ∃ z, z = hs h35 a10 (true, .inl (1, N37, .inl (upd f38 (((i_5 + (-1 : Int32)) + (-1 : Int32)) + (-1 : Int32)).toNatClampNeg (vp_nar .byte ((45 : Int32)))))) := ⟨_, rfl⟩
        try rw [← eh41] at hf
        rw [← eh41]
        refine v_iload (i := 5) dJ25_getChars_118 rfl ?_
        exact v_iret dJ25_getChars_120 rfl ⟨_, rfl, hf⟩
  · replace hf := hf.2 c1
    refine v_iload_n (i := 0) dJ25_getChars_28 rfl rfl ?_
    refine v_bipush (v := 100) dJ25_getChars_29 (by decide) ?_
    refine v_idiv dJ25_getChars_31 (by decide) ?_
    refine v_istore_n (i := 3) (lv' := [(0, .int i_0), (2, va_rf r_2), (3, .int (i_0 / (100 : Int32))), (5, .int i_5), (6, .int i_6)]) dJ25_getChars_32 rfl (Nat.le_of_ble_eq_true rfl) rfl rfl ?_
    refine v_iload_n (i := 3) dJ25_getChars_33 rfl rfl ?_
    refine v_bipush (v := 100) dJ25_getChars_34 (by decide) ?_
    refine v_imul dJ25_getChars_36 ?_
    refine v_iload_n (i := 0) dJ25_getChars_37 rfl rfl ?_
    refine v_isub dJ25_getChars_38 ?_
    refine v_istore (i := 4) (lv' := [(0, .int i_0), (2, va_rf r_2), (3, .int (i_0 / (100 : Int32))), (4, .int (((i_0 / (100 : Int32)) * (100 : Int32)) - i_0)), (5, .int i_5), (6, .int i_6)]) dJ25_getChars_39 (Nat.le_of_ble_eq_true rfl) rfl rfl ?_
    refine v_iload_n (i := 3) dJ25_getChars_41 rfl rfl ?_
    refine v_istore_n (i := 0) (lv' := [(0, .int (i_0 / (100 : Int32))), (2, va_rf r_2), (3, .int (i_0 / (100 : Int32))), (4, .int (((i_0 / (100 : Int32)) * (100 : Int32)) - i_0)), (5, .int i_5), (6, .int i_6)]) dJ25_getChars_42 rfl (Nat.le_of_ble_eq_true rfl) rfl rfl ?_
    refine v_qload_n (r := r_2) (i := 2) dJ25_getChars_43 rfl rfl ?_
    refine v_iinc (i := 5) (v := i_5 + (-1 : Int32)) (lv' := [(0, .int (i_0 / (100 : Int32))), (2, va_rf r_2), (3, .int (i_0 / (100 : Int32))), (4, .int (((i_0 / (100 : Int32)) * (100 : Int32)) - i_0)), (5, .int (i_5 + (-1 : Int32))), (6, .int i_6)]) dJ25_getChars_44 rfl rfl (Nat.le_of_ble_eq_true rfl) rfl rfl ?_
    refine v_iload (i := 5) dJ25_getChars_47 rfl ?_
    refine v_gets dJ25_getChars_49 q2256 (List.mem_of_getElem? (i := 8) rfl) (Or.inl rfl) ?_
    replace hf := gS_e hf
    obtain ⟨r42, er42, hf⟩ := hf
    rw [← er42]
    refine v_iload (i := 4) dJ25_getChars_52 rfl ?_
    obtain ⟨a43, rfl⟩ := aI_s hf
    replace hf := aI_e hf
    obtain ⟨w44, N45, f46, hh47, hi48, i49, ei49, hf⟩ := hf
    refine v_bald dJ25_getChars_54 hh47 hi48 ?_
    rw [← ei49]
    obtain ⟨a50, rfl⟩ := sB_s hf
    replace hf := sB_e hf
    obtain ⟨N51, f52, hh53, hi54, hf⟩ := hf
    refine v_bast dJ25_getChars_55 hh53 hi54 ?_
    obtain ⟨h55, eh55⟩ : ∃ z, z = hs h a50 (true, .inl (1, N51, .inl (upd f52 (i_5 + (-1 : Int32)).toNatClampNeg (vp_nar .byte (i49))))) := ⟨_, rfl⟩
    try rw [← eh55] at hf
    rw [← eh55]
    refine v_qload_n (r := (some a50)) (i := 2) dJ25_getChars_56 rfl rfl ?_
    refine v_iinc (i := 5) (v := (i_5 + (-1 : Int32)) + (-1 : Int32)) (lv' := [(0, .int (i_0 / (100 : Int32))), (2, va_rf (some a50)), (3, .int (i_0 / (100 : Int32))), (4, .int (((i_0 / (100 : Int32)) * (100 : Int32)) - i_0)), (5, .int ((i_5 + (-1 : Int32)) + (-1 : Int32))), (6, .int i_6)]) dJ25_getChars_57 rfl rfl (Nat.le_of_ble_eq_true rfl) rfl rfl ?_
    refine v_iload (i := 5) dJ25_getChars_60 rfl ?_
    refine v_gets dJ25_getChars_62 q2258 (List.mem_of_getElem? (i := 7) rfl) (Or.inl rfl) ?_
    replace hf := gS_e hf
    obtain ⟨r56, er56, hf⟩ := hf
    rw [← er56]
    refine v_iload (i := 4) dJ25_getChars_65 rfl ?_
    obtain ⟨a57, rfl⟩ := aI_s hf
    replace hf := aI_e hf
    obtain ⟨w58, N59, f60, hh61, hi62, i63, ei63, hf⟩ := hf
    refine v_bald dJ25_getChars_67 hh61 hi62 ?_
    rw [← ei63]
    replace hf := sB_e hf
    obtain ⟨N64, f65, hh66, hi67, hf⟩ := hf
    refine v_bast dJ25_getChars_68 hh66 hi67 ?_
    obtain ⟨h68, eh68⟩ : ∃ z, z = hs h55 a50 (true, .inl (1, N64, .inl (upd f65 ((i_5 + (-1 : Int32)) + (-1 : Int32)).toNatClampNeg (vp_nar .byte (i63))))) := ⟨_, rfl⟩
    try rw [← eh68] at hf
    rw [← eh68]
    refine v_goto 22 dJ25_getChars_69 (by decide) ?_
    refine V.lp (lv' := [(0, .int (i_0 / (100 : Int32))), (2, va_rf (some a50)), (5, .int ((i_5 + (-1 : Int32)) + (-1 : Int32))), (6, .int i_6)]) [0, 1, 4, 5] rfl ?_
    exact V.weak hf (by omega) (by omega)
theorem b_J25_getChars {G : Gt} {h : Hp} {mc ms : Nat} {i_0 : Int32} {i_1 : Int32} {r_2 : Option Nat} {K : Int32 → Hp → Prop} (hG : Base G) (hf : ∀ E : Ev, V G E Y_J25_getChars cJ25_getChars 7 (QM G E (kI K) xN) h mc ms 0 [(0, .int i_0), (1, .int i_1), (2, va_rf r_2)] []) : MM G Y_J25_getChars cJ25_getChars 7 mc ms [.int i_0, .int i_1, va_rf r_2] h (kI K) xN := mm_of hG (by decide +kernel) rfl (ac_c rfl (ac_c rfl (ac_c (rf_cat _) ac_nil))) (Nat.le_of_ble_eq_true rfl) (fun E _ _ => hf E)
abbrev Y_J4_append_2 : Yt := (yJ4_append_2, some (.object "java/lang/AbstractStringBuilder"), 5, 132, [])
def f_J4_append_2 (G : Gt) (h : Hp) (k n : Nat) (t_0 : Option Nat) (i_1 : Int32) (K : Option Nat → Hp → Prop) : Prop :=
gI h t_0 13 3 fun i1 =>
dI G Y_J25_stringSize cJ25_stringSize 4 [.int i_1] h k n (fun i7 h6 k10 n11 =>
rv h6 t_0 13 (f_J4_ensureCapacityInternal G h6 t_0 (i1 + i7) (fun h15 =>
rv h15 t_0 13 (f_J4_isLatin1 G h15 t_0 (fun i20 h19 =>
((i20 = 0 → gR h19 t_0 13 0 fun r22 =>
False) ∧
(¬ (i20 = 0) → gR h19 t_0 13 0 fun r27 =>
dI G Y_J25_getChars cJ25_getChars 7 [.int i_1, .int (i1 + i7), va_rf r27] h19 k10 n11 (fun i33 h32 k36 n37 =>
pF h32 t_0 13 3 (.int (i1 + i7)) fun h40 =>
K t_0 h40) xN))))))) xN
theorem m_J4_append_2 {G : Gt} {h : Hp} {mc ms : Nat} {a0 : Nat} {i_1 : Int32} {K : Option Nat → Hp → Prop} (hG : Base G) (hA : 1 ≤ mc) (hB : 100 ≤ ms) (hf : f_J4_append_2 G h (mc - 1) (ms - 100) (some a0) i_1 K) : MM G Y_J4_append_2 cJ4_append_2 4 mc ms [.ref a0, .int i_1] h (kR K) xN := by
  refine mm_of hG (by decide +kernel) rfl (ac_c rfl (ac_c rfl ac_nil)) (Nat.le_of_ble_eq_true rfl) (fun E _ _ => ?_)
  obtain ⟨k, hk9⟩ : ∃ z, z = mc - 1 := ⟨_, rfl⟩
  obtain ⟨n, hn9⟩ : ∃ z, z = ms - 100 := ⟨_, rfl⟩
  rw [← hk9, ← hn9] at hf
  refine V.weak (k' := k + 1) (n' := n + 100) ?_ (by omega) (by omega)
  show V G E Y_J4_append_2 cJ4_append_2 4 (QM G E (kR K) xN) h (k + 1) (n + 100) 0 [(0, .ref a0), (1, .int i_1)] []
  unfold f_J4_append_2 at hf
  refine v_qload_n (r := (some a0)) (i := 0) dJ4_append_2_0 rfl rfl ?_
  replace hf := gI_e hf
  obtain ⟨w2, fs3, i1, hh4, hk5, hf⟩ := hf
  refine v_getf (T := TJ5) (ci := 13) 3 dJ4_append_2_1 q263 rfl in_J5 (Nat.le_of_ble_eq_true rfl) (Or.inl rfl) hh4 hk5 ?_
  refine v_istore_n (i := 2) (lv' := [(0, va_rf (some a0)), (1, .int i_1), (2, .int i1)]) dJ4_append_2_4 rfl (Nat.le_of_ble_eq_true rfl) rfl rfl ?_
  refine v_iload_n (i := 2) dJ4_append_2_5 rfl rfl ?_
  refine v_iload_n (i := 1) dJ4_append_2_6 rfl rfl ?_
  obtain ⟨mc8, ms9, hkmc8, hnms9, hM⟩ := hf
  refine V.weak (k' := ((k - mc8) + 1) + mc8) (n' := ((n - ms9) + 100) + ms9) ?_ (by omega) (by omega)
  refine v_callS 1 dJ4_append_2_7 hM rfl (lw_S q2250 q2251 q120 q2252) rfl (by decide +kernel) (by decide) rfl (cat_len (Nat.le_of_ble_eq_true rfl)) (kk_I fun i7 h6 hg => ?_) (fun _ _ _ hx => hx.elim)
  have hf := hg
  clear hg
  refine v_iadd dJ4_append_2_10 ?_
  refine v_istore_n (i := 3) (lv' := [(0, va_rf (some a0)), (1, .int i_1), (2, .int i1), (3, .int (i1 + i7))]) dJ4_append_2_11 rfl (Nat.le_of_ble_eq_true rfl) rfl rfl ?_
  refine v_qload_n (r := (some a0)) (i := 0) dJ4_append_2_12 rfl rfl ?_
  refine v_iload_n (i := 3) dJ4_append_2_13 rfl rfl ?_
  replace hf := rv_e hf
  obtain ⟨w12, fs13, hh14, hf⟩ := hf
  refine v_callP (mc := 1) (ms := 100) 1 dJ4_append_2_14 (m_J4_ensureCapacityInternal hG hf) rfl hh14 rfl (lw_meth q1988) q94 q1985 q1987 q1986 q1353 rfl rfl (by decide +kernel) (by decide) rfl (cat_len (Nat.le_of_ble_eq_true rfl)) (kk_V fun h15 hg => ?_) (fun _ _ _ hx => hx.elim)
  replace hf := hg
  clear hg
  refine v_qload_n (r := (some a0)) (i := 0) dJ4_append_2_17 rfl rfl ?_
  replace hf := rv_e hf
  obtain ⟨w16, fs17, hh18, hf⟩ := hf
  refine V.addK0 ?_
  refine V.addN0 ?_
  refine v_callU (mc := 0) (ms := 0) 0 dJ4_append_2_18 (m_J4_isLatin1 hG hf) rfl hh18 rfl (lw_U q1350 q1352 q1353 q1351 q94 q1354) rfl rfl (by decide +kernel) (by decide) rfl (cat_len (Nat.le_of_ble_eq_true rfl)) (kk_I fun i20 h19 hg => ?_) (fun _ _ _ hx => hx.elim)
  replace hf := hg
  clear hg
  refine v_if_eq 37 dJ4_append_2_21 (by decide) (fun c21 => ?_) (fun c21 => ?_)
  · replace hf := hf.1 c21
    refine v_iload_n (i := 1) dJ4_append_2_37 rfl rfl ?_
    refine v_iload_n (i := 2) dJ4_append_2_38 rfl rfl ?_
    refine v_iload_n (i := 3) dJ4_append_2_39 rfl rfl ?_
    refine v_qload_n (r := (some a0)) (i := 0) dJ4_append_2_40 rfl rfl ?_
    replace hf := gR_e hf
    obtain ⟨w23, fs24, r22, hh25, hk26, hf⟩ := hf
    refine v_getf (T := TJ5) (ci := 13) 0 dJ4_append_2_41 q259 rfl in_J5 (Nat.le_of_ble_eq_true rfl) (Or.inl rfl) hh25 hk26 ?_
    exact hf.elim
  · replace hf := hf.2 c21
    refine v_iload_n (i := 1) dJ4_append_2_24 rfl rfl ?_
    refine v_iload_n (i := 3) dJ4_append_2_25 rfl rfl ?_
    refine v_qload_n (r := (some a0)) (i := 0) dJ4_append_2_26 rfl rfl ?_
    replace hf := gR_e hf
    obtain ⟨w28, fs29, r27, hh30, hk31, hf⟩ := hf
    refine v_getf (T := TJ5) (ci := 13) 0 dJ4_append_2_27 q259 rfl in_J5 (Nat.le_of_ble_eq_true rfl) (Or.inl rfl) hh30 hk31 ?_
    obtain ⟨mc34, ms35, hkmc34, hnms35, hM⟩ := hf
    refine V.weak (k' := (((k - mc8) - mc34) + 0) + mc34) (n' := (((n - ms9) - ms35) + 0) + ms35) ?_ (by omega) (by omega)
    refine v_callS 3 dJ4_append_2_30 hM rfl (lw_S q2253 q2254 q120 q2255) rfl (by decide +kernel) (by decide) rfl (cat_len (Nat.le_of_ble_eq_true rfl)) (kk_I fun i33 h32 hg => ?_) (fun _ _ _ hx => hx.elim)
    have hf := hg
    clear hg
    refine v_pop dJ4_append_2_33 rfl ?_
    refine v_goto 48 dJ4_append_2_34 (by decide) ?_
    refine v_qload_n (r := (some a0)) (i := 0) dJ4_append_2_48 rfl rfl ?_
    refine v_iload_n (i := 3) dJ4_append_2_49 rfl rfl ?_
    replace hf := pF_e hf
    obtain ⟨fs38, hh39, hf⟩ := hf
    refine v_putf (v := .int (i1 + i7)) (T := TJ5) (ci := 13) (ty := .int) 3 dJ4_append_2_50 q263 rfl in_J5 tyJ5 tyJ5_ok nmJ5 (Nat.le_of_ble_eq_true rfl) (Or.inl rfl) rfl (by decide +kernel) rfl rfl hh39 ?_
    obtain ⟨h40, eh40⟩ : ∃ z, z = hs h32 a0 (true, .inr (13, fs38.set 3 (.int (i1 + i7)))) := ⟨_, rfl⟩
    try rw [← eh40] at hf
    rw [← eh40]
    refine v_qload_n (r := (some a0)) (i := 0) dJ4_append_2_53 rfl rfl ?_
    exact v_qret (r := (some a0)) dJ4_append_2_54 rfl (Or.inl ⟨_, rfl⟩) ⟨_, rfl, hf⟩
abbrev Y_J5_append_2 : Yt := (yJ5_append_2, some (.object "java/lang/StringBuilder"), 6, 155, [])
def f_J5_append_2 (G : Gt) (h : Hp) (k n : Nat) (t_0 : Option Nat) (i_1 : Int32) (K : Option Nat → Hp → Prop) : Prop :=
rv h t_0 13 (dR G Y_J4_append_2 cJ4_append_2 4 [va_rf t_0, .int i_1] h k n (fun r5 h4 k8 n9 =>
K t_0 h4) xN)
theorem m_J5_append_2 {G : Gt} {h : Hp} {mc ms : Nat} {a0 : Nat} {i_1 : Int32} {K : Option Nat → Hp → Prop} (hG : Base G) (hA : 0 ≤ mc) (hB : 0 ≤ ms) (hf : f_J5_append_2 G h (mc - 0) (ms - 0) (some a0) i_1 K) : MM G Y_J5_append_2 cJ5_append_2 2 mc ms [.ref a0, .int i_1] h (kR K) xN := by
  refine mm_of hG (by decide +kernel) rfl (ac_c rfl (ac_c rfl ac_nil)) (Nat.le_of_ble_eq_true rfl) (fun E _ _ => ?_)
  obtain ⟨k, hk9⟩ : ∃ z, z = mc - 0 := ⟨_, rfl⟩
  obtain ⟨n, hn9⟩ : ∃ z, z = ms - 0 := ⟨_, rfl⟩
  rw [← hk9, ← hn9] at hf
  refine V.weak (k' := k + 0) (n' := n + 0) ?_ (by omega) (by omega)
  show V G E Y_J5_append_2 cJ5_append_2 2 (QM G E (kR K) xN) h (k + 0) (n + 0) 0 [(0, .ref a0), (1, .int i_1)] []
  unfold f_J5_append_2 at hf
  refine v_qload_n (r := (some a0)) (i := 0) dJ5_append_2_0 rfl rfl ?_
  refine v_iload_n (i := 1) dJ5_append_2_1 rfl rfl ?_
  replace hf := rv_e hf
  obtain ⟨w1, fs2, hh3, hf⟩ := hf
  obtain ⟨mc6, ms7, hkmc6, hnms7, hM⟩ := hf
  refine V.weak (k' := ((k - mc6) + 0) + mc6) (n' := ((n - ms7) + 0) + ms7) ?_ (by omega) (by omega)
  refine v_callSU 1 dJ5_append_2_2 hM rfl hh3 rfl (lw_SU q2247 q2875 q272 q2248 q94 q2249) rfl (by decide +kernel) (by decide) rfl (cat_len (Nat.le_of_ble_eq_true rfl)) (kk_R fun r5 h4 hg => ?_) (fun _ _ _ hx => hx.elim)
  have hf := hg
  clear hg
  refine v_pop dJ5_append_2_5 (rf_cat _) ?_
  refine v_qload_n (r := (some a0)) (i := 0) dJ5_append_2_6 rfl rfl ?_
  exact v_qret (r := (some a0)) dJ5_append_2_7 rfl (Or.inl ⟨_, rfl⟩) ⟨_, rfl, hf⟩
abbrev Y_J4_inflateIfNeededFor : Yt := (yJ4_inflateIfNeededFor, none, 2, 60, [])
def f_J4_inflateIfNeededFor (G : Gt) (h : Hp) (t_0 : Option Nat) (r_1 : Option Nat) (K : Hp → Prop) : Prop :=
(((1 : Int32) = 0 → K h) ∧
(¬ ((1 : Int32) = 0) → gI h t_0 13 1 fun i2 =>
rv h r_1 14 (f_J6_coder G h r_1 (fun i12 h11 =>
((i2 = i12 → K h11) ∧
(¬ (i2 = i12) → False))))))
theorem m_J4_inflateIfNeededFor {G : Gt} {h : Hp} {a0 : Nat} {r_1 : Option Nat} {K : Hp → Prop} (hG : Base G) (hf : f_J4_inflateIfNeededFor G h (some a0) r_1 K) : MM G Y_J4_inflateIfNeededFor cJ4_inflateIfNeededFor 2 0 0 [.ref a0, va_rf r_1] h (kV K) xN := by
  refine mm_of hG (by decide +kernel) rfl (ac_c rfl (ac_c (rf_cat _) ac_nil)) (Nat.le_of_ble_eq_true rfl) (fun E _ _ => ?_)
  show V G E Y_J4_inflateIfNeededFor cJ4_inflateIfNeededFor 2 (QM G E (kV K) xN) h 0 0 0 [(0, .ref a0), (1, va_rf r_1)] []
  unfold f_J4_inflateIfNeededFor at hf
  refine v_gets dJ4_inflateIfNeededFor_0 q250 (List.mem_of_getElem? (i := 0) rfl) (Or.inl rfl) ?_
  refine v_if_eq 21 dJ4_inflateIfNeededFor_3 (by decide) (fun c1 => ?_) (fun c1 => ?_)
  · replace hf := hf.1 c1
    exact v_vret dJ4_inflateIfNeededFor_21 rfl ⟨rfl, hf⟩
  · replace hf := hf.2 c1
    refine v_qload_n (r := (some a0)) (i := 0) dJ4_inflateIfNeededFor_6 rfl rfl ?_
    replace hf := gI_e hf
    obtain ⟨w3, fs4, i2, hh5, hk6, hf⟩ := hf
    refine v_getf (T := TJ5) (ci := 13) 1 dJ4_inflateIfNeededFor_7 q260 rfl in_J5 (Nat.le_of_ble_eq_true rfl) (Or.inl rfl) hh5 hk6 ?_
    refine v_qload_n (r := r_1) (i := 1) dJ4_inflateIfNeededFor_10 rfl rfl ?_
    obtain ⟨a7, rfl⟩ := rv_s hf
    replace hf := rv_e hf
    obtain ⟨w8, fs9, hh10, hf⟩ := hf
    refine V.addK0 ?_
    refine V.addN0 ?_
    refine v_callV (mc := 0) (ms := 0) 0 dJ4_inflateIfNeededFor_11 (m_J6_coder hG hf) rfl hh10 rfl (lw_V q2300 q1200 q1201 q96 q1202) rfl (by decide +kernel) (by decide) rfl (cat_len (Nat.le_of_ble_eq_true rfl)) (kk_I fun i12 h11 hg => ?_) (fun _ _ _ hx => hx.elim)
    replace hf := hg
    clear hg
    refine v_icmp_eq 21 dJ4_inflateIfNeededFor_14 (by decide) (fun c13 => ?_) (fun c13 => ?_)
    · replace hf := hf.1 c13
      exact v_vret dJ4_inflateIfNeededFor_21 rfl ⟨rfl, hf⟩
    · replace hf := hf.2 c13
      refine v_qload_n (r := (some a0)) (i := 0) dJ4_inflateIfNeededFor_17 rfl rfl ?_
      exact hf.elim
abbrev Y_J6_getBytes : Yt := (yJ6_getBytes, none, 2, 60, [])
def f_J6_getBytes (G : Gt) (h : Hp) (t_0 : Option Nat) (r_1 : Option Nat) (i_2 : Int32) (i_3 : Int32) (K : Hp → Prop) : Prop :=
rv h t_0 14 (f_J6_coder G h t_0 (fun i5 h4 =>
((¬ (i5 = i_3) → gR h4 t_0 14 0 fun r7 =>
gR h4 t_0 14 0 fun r12 =>
aL h4 r12 fun i22 =>
False) ∧
(i5 = i_3 → gR h4 t_0 14 0 fun r23 =>
gR h4 t_0 14 0 fun r28 =>
aL h4 r28 fun i38 =>
cB h4 r23 (0 : Int32) r_1 (i_2 <<< (i_3 &&& 31)) i38 fun h52 =>
K h52))))
theorem m_J6_getBytes {G : Gt} {h : Hp} {a0 : Nat} {r_1 : Option Nat} {i_2 : Int32} {i_3 : Int32} {K : Hp → Prop} (hG : Base G) (hf : f_J6_getBytes G h (some a0) r_1 i_2 i_3 K) : MM G Y_J6_getBytes cJ6_getBytes 4 0 0 [.ref a0, va_rf r_1, .int i_2, .int i_3] h (kV K) xN := by
  refine mm_of hG (by decide +kernel) rfl (ac_c rfl (ac_c (rf_cat _) (ac_c rfl (ac_c rfl ac_nil)))) (Nat.le_of_ble_eq_true rfl) (fun E _ _ => ?_)
  show V G E Y_J6_getBytes cJ6_getBytes 4 (QM G E (kV K) xN) h 0 0 0 [(0, .ref a0), (1, va_rf r_1), (2, .int i_2), (3, .int i_3)] []
  unfold f_J6_getBytes at hf
  refine v_qload_n (r := (some a0)) (i := 0) dJ6_getBytes_0 rfl rfl ?_
  replace hf := rv_e hf
  obtain ⟨w1, fs2, hh3, hf⟩ := hf
  refine V.addK0 ?_
  refine V.addN0 ?_
  refine v_callV (mc := 0) (ms := 0) 0 dJ6_getBytes_1 (m_J6_coder hG hf) rfl hh3 rfl (lw_V q1199 q1200 q1201 q96 q1202) rfl (by decide +kernel) (by decide) rfl (cat_len (Nat.le_of_ble_eq_true rfl)) (kk_I fun i5 h4 hg => ?_) (fun _ _ _ hx => hx.elim)
  replace hf := hg
  clear hg
  refine v_iload_n (i := 3) dJ6_getBytes_4 rfl rfl ?_
  refine v_icmp_ne 28 dJ6_getBytes_5 (by decide) (fun c6 => ?_) (fun c6 => ?_)
  · replace hf := hf.1 c6
    refine v_qload_n (r := (some a0)) (i := 0) dJ6_getBytes_28 rfl rfl ?_
    replace hf := gR_e hf
    obtain ⟨w8, fs9, r7, hh10, hk11, hf⟩ := hf
    refine v_getf (T := TJ6) (ci := 14) 0 dJ6_getBytes_29 q2346 rfl in_J6 (Nat.le_of_ble_eq_true rfl) (Or.inl rfl) hh10 hk11 ?_
    refine v_iconst (v := 0) dJ6_getBytes_32 (by decide) ?_
    refine v_qload_n (r := r_1) (i := 1) dJ6_getBytes_33 rfl rfl ?_
    refine v_iload_n (i := 2) dJ6_getBytes_34 rfl rfl ?_
    refine v_qload_n (r := (some a0)) (i := 0) dJ6_getBytes_35 rfl rfl ?_
    replace hf := gR_e hf
    obtain ⟨w13, fs14, r12, hh15, hk16, hf⟩ := hf
    refine v_getf (T := TJ6) (ci := 14) 0 dJ6_getBytes_36 q2346 rfl in_J6 (Nat.le_of_ble_eq_true rfl) (Or.inl rfl) hh15 hk16 ?_
    obtain ⟨a17, rfl⟩ := aL_s hf
    replace hf := aL_e hf
    obtain ⟨w18, t19, x20, hh21, i22, ei22, hf⟩ := hf
    refine v_alen dJ6_getBytes_39 hh21 ei22.symm ?_
    exact hf.elim
  · replace hf := hf.2 c6
    refine v_qload_n (r := (some a0)) (i := 0) dJ6_getBytes_8 rfl rfl ?_
    replace hf := gR_e hf
    obtain ⟨w24, fs25, r23, hh26, hk27, hf⟩ := hf
    refine v_getf (T := TJ6) (ci := 14) 0 dJ6_getBytes_9 q2346 rfl in_J6 (Nat.le_of_ble_eq_true rfl) (Or.inl rfl) hh26 hk27 ?_
    refine v_iconst (v := 0) dJ6_getBytes_12 (by decide) ?_
    refine v_qload_n (r := r_1) (i := 1) dJ6_getBytes_13 rfl rfl ?_
    refine v_iload_n (i := 2) dJ6_getBytes_14 rfl rfl ?_
    refine v_iload_n (i := 3) dJ6_getBytes_15 rfl rfl ?_
    refine v_ishl dJ6_getBytes_16 ?_
    refine v_qload_n (r := (some a0)) (i := 0) dJ6_getBytes_17 rfl rfl ?_
    replace hf := gR_e hf
    obtain ⟨w29, fs30, r28, hh31, hk32, hf⟩ := hf
    refine v_getf (T := TJ6) (ci := 14) 0 dJ6_getBytes_18 q2346 rfl in_J6 (Nat.le_of_ble_eq_true rfl) (Or.inl rfl) hh31 hk32 ?_
    obtain ⟨a33, rfl⟩ := aL_s hf
    replace hf := aL_e hf
    obtain ⟨w34, t35, x36, hh37, i38, ei38, hf⟩ := hf
    refine v_alen dJ6_getBytes_21 hh37 ei38.symm ?_
    obtain ⟨a39, rfl⟩ := (cB_s hf).1
    obtain ⟨a40, rfl⟩ := (cB_s hf).2
    replace hf := cB_e hf
    obtain ⟨w41, N42, f43, N44, g45, hh46, hh47, hp48, hq49, hq50, hq51, hf⟩ := hf
    refine v_copyB dJ6_getBytes_22 q2305 q497 q496 q104 hh46 hh47 hp48.1 hp48.2.1 hp48.2.2 hq49 hq50 hq51 (cat_len (Nat.le_of_ble_eq_true rfl)) (Nat.le_of_ble_eq_true rfl) (Nat.le_of_ble_eq_true rfl) ?_
    obtain ⟨h52, eh52⟩ : ∃ z, z = hs h4 a40 (true, .inl (1, N44, .inl (va_cpy f43 g45 ((0 : Int32)).toNatClampNeg (i_2 <<< (i_3 &&& 31)).toNatClampNeg (i38).toNatClampNeg))) := ⟨_, rfl⟩
    try rw [← eh52] at hf
    rw [← eh52]
    refine v_goto 43 dJ6_getBytes_25 (by decide) ?_
    exact v_vret dJ6_getBytes_43 rfl ⟨rfl, hf⟩
abbrev Y_J4_putStringAt : Yt := (yJ4_putStringAt, none, 3, 83, [])
def f_J4_putStringAt (G : Gt) (h : Hp) (t_0 : Option Nat) (i_1 : Int32) (r_2 : Option Nat) (K : Hp → Prop) : Prop :=
rv h t_0 13 (f_J4_inflateIfNeededFor G h t_0 r_2 (fun h4 =>
gR h4 t_0 13 0 fun r5 =>
gI h4 t_0 13 1 fun i10 =>
rv h4 r_2 14 (f_J6_getBytes G h4 r_2 r5 i_1 i10 (fun h19 =>
K h19))))
theorem m_J4_putStringAt {G : Gt} {h : Hp} {a0 : Nat} {i_1 : Int32} {r_2 : Option Nat} {K : Hp → Prop} (hG : Base G) (hf : f_J4_putStringAt G h (some a0) i_1 r_2 K) : MM G Y_J4_putStringAt cJ4_putStringAt 3 0 0 [.ref a0, .int i_1, va_rf r_2] h (kV K) xN := by
  refine mm_of hG (by decide +kernel) rfl (ac_c rfl (ac_c rfl (ac_c (rf_cat _) ac_nil))) (Nat.le_of_ble_eq_true rfl) (fun E _ _ => ?_)
  show V G E Y_J4_putStringAt cJ4_putStringAt 3 (QM G E (kV K) xN) h 0 0 0 [(0, .ref a0), (1, .int i_1), (2, va_rf r_2)] []
  unfold f_J4_putStringAt at hf
  refine v_qload_n (r := (some a0)) (i := 0) dJ4_putStringAt_0 rfl rfl ?_
  refine v_qload_n (r := r_2) (i := 2) dJ4_putStringAt_1 rfl rfl ?_
  replace hf := rv_e hf
  obtain ⟨w1, fs2, hh3, hf⟩ := hf
  refine V.addK0 ?_
  refine V.addN0 ?_
  refine v_callP (mc := 0) (ms := 0) 1 dJ4_putStringAt_2 (m_J4_inflateIfNeededFor hG hf) rfl hh3 rfl (lw_meth q2299) q94 q2296 q2298 q2297 q1353 rfl rfl (by decide +kernel) (by decide) rfl (cat_len (Nat.le_of_ble_eq_true rfl)) (kk_V fun h4 hg => ?_) (fun _ _ _ hx => hx.elim)
  replace hf := hg
  clear hg
  refine v_qload_n (r := r_2) (i := 2) dJ4_putStringAt_5 rfl rfl ?_
  refine v_qload_n (r := (some a0)) (i := 0) dJ4_putStringAt_6 rfl rfl ?_
  replace hf := gR_e hf
  obtain ⟨w6, fs7, r5, hh8, hk9, hf⟩ := hf
  refine v_getf (T := TJ5) (ci := 13) 0 dJ4_putStringAt_7 q259 rfl in_J5 (Nat.le_of_ble_eq_true rfl) (Or.inl rfl) hh8 hk9 ?_
  refine v_iload_n (i := 1) dJ4_putStringAt_10 rfl rfl ?_
  refine v_qload_n (r := (some a0)) (i := 0) dJ4_putStringAt_11 rfl rfl ?_
  replace hf := gI_e hf
  obtain ⟨w11, fs12, i10, hh13, hk14, hf⟩ := hf
  refine v_getf (T := TJ5) (ci := 13) 1 dJ4_putStringAt_12 q260 rfl in_J5 (Nat.le_of_ble_eq_true rfl) (Or.inl rfl) hh13 hk14 ?_
  obtain ⟨a15, rfl⟩ := rv_s hf
  replace hf := rv_e hf
  obtain ⟨w16, fs17, hh18, hf⟩ := hf
  refine V.addK0 ?_
  refine V.addN0 ?_
  refine v_callV (mc := 0) (ms := 0) 3 dJ4_putStringAt_15 (m_J6_getBytes hG hf) rfl hh18 rfl (lw_V q2301 q2302 q2303 q96 q2304) rfl (by decide +kernel) (by decide) rfl (cat_len (Nat.le_of_ble_eq_true rfl)) (kk_V fun h19 hg => ?_) (fun _ _ _ hx => hx.elim)
  replace hf := hg
  clear hg
  exact v_vret dJ4_putStringAt_18 rfl ⟨rfl, hf⟩
abbrev Y_J4_append_3 : Yt := (yJ4_append_3, some (.object "java/lang/AbstractStringBuilder"), 5, 132, [])
def f_J4_append_3 (G : Gt) (h : Hp) (t_0 : Option Nat) (r_1 : Option Nat) (K : Option Nat → Hp → Prop) : Prop :=
((r_1 = none → False) ∧
(∀ y1, r_1 = some y1 → rv h r_1 14 (f_J6_length G h r_1 (fun i7 h6 =>
gI h6 t_0 13 3 fun i8 =>
rv h6 t_0 13 (f_J4_ensureCapacityInternal G h6 t_0 (i8 + i7) (fun h16 =>
gI h16 t_0 13 3 fun i17 =>
rv h16 t_0 13 (f_J4_putStringAt G h16 t_0 i17 r_1 (fun h25 =>
gI h25 t_0 13 3 fun i26 =>
pF h25 t_0 13 3 (.int (i26 + i7)) fun h33 =>
K t_0 h33))))))))
theorem m_J4_append_3 {G : Gt} {h : Hp} {a0 : Nat} {r_1 : Option Nat} {K : Option Nat → Hp → Prop} (hG : Base G) (hf : f_J4_append_3 G h (some a0) r_1 K) : MM G Y_J4_append_3 cJ4_append_3 3 1 100 [.ref a0, va_rf r_1] h (kR K) xN := by
  refine mm_of hG (by decide +kernel) rfl (ac_c rfl (ac_c (rf_cat _) ac_nil)) (Nat.le_of_ble_eq_true rfl) (fun E _ _ => ?_)
  show V G E Y_J4_append_3 cJ4_append_3 3 (QM G E (kR K) xN) h 1 100 0 [(0, .ref a0), (1, va_rf r_1)] []
  unfold f_J4_append_3 at hf
  refine v_qload_n (r := r_1) (i := 1) dJ4_append_3_0 rfl rfl ?_
  refine v_ifnonnull 9 dJ4_append_3_1 (by decide) (fun y1 e2 => ?_) (fun e2 => ?_)
  · replace hf := hf.2 y1 e2
    subst e2
    refine v_qload_n (r := (some y1)) (i := 1) dJ4_append_3_9 rfl rfl ?_
    replace hf := rv_e hf
    obtain ⟨w3, fs4, hh5, hf⟩ := hf
    refine V.addK0 ?_
    refine V.addN0 ?_
    refine v_callV (mc := 0) (ms := 0) 0 dJ4_append_3_10 (m_J6_length hG hf) rfl hh5 rfl (lw_V q2291 q2085 q2086 q96 q2087) rfl (by decide +kernel) (by decide) rfl (cat_len (Nat.le_of_ble_eq_true rfl)) (kk_I fun i7 h6 hg => ?_) (fun _ _ _ hx => hx.elim)
    replace hf := hg
    clear hg
    refine v_istore_n (i := 2) (lv' := [(0, va_rf (some a0)), (1, va_rf (some y1)), (2, .int i7)]) dJ4_append_3_13 rfl (Nat.le_of_ble_eq_true rfl) rfl rfl ?_
    refine v_qload_n (r := (some a0)) (i := 0) dJ4_append_3_14 rfl rfl ?_
    refine v_qload_n (r := (some a0)) (i := 0) dJ4_append_3_15 rfl rfl ?_
    replace hf := gI_e hf
    obtain ⟨w9, fs10, i8, hh11, hk12, hf⟩ := hf
    refine v_getf (T := TJ5) (ci := 13) 3 dJ4_append_3_16 q263 rfl in_J5 (Nat.le_of_ble_eq_true rfl) (Or.inl rfl) hh11 hk12 ?_
    refine v_iload_n (i := 2) dJ4_append_3_19 rfl rfl ?_
    refine v_iadd dJ4_append_3_20 ?_
    replace hf := rv_e hf
    obtain ⟨w13, fs14, hh15, hf⟩ := hf
    refine v_callP (mc := 1) (ms := 100) 1 dJ4_append_3_21 (m_J4_ensureCapacityInternal hG hf) rfl hh15 rfl (lw_meth q1988) q94 q1985 q1987 q1986 q1353 rfl rfl (by decide +kernel) (by decide) rfl (cat_len (Nat.le_of_ble_eq_true rfl)) (kk_V fun h16 hg => ?_) (fun _ _ _ hx => hx.elim)
    replace hf := hg
    clear hg
    refine v_qload_n (r := (some a0)) (i := 0) dJ4_append_3_24 rfl rfl ?_
    refine v_qload_n (r := (some a0)) (i := 0) dJ4_append_3_25 rfl rfl ?_
    replace hf := gI_e hf
    obtain ⟨w18, fs19, i17, hh20, hk21, hf⟩ := hf
    refine v_getf (T := TJ5) (ci := 13) 3 dJ4_append_3_26 q263 rfl in_J5 (Nat.le_of_ble_eq_true rfl) (Or.inl rfl) hh20 hk21 ?_
    refine v_qload_n (r := (some y1)) (i := 1) dJ4_append_3_29 rfl rfl ?_
    replace hf := rv_e hf
    obtain ⟨w22, fs23, hh24, hf⟩ := hf
    refine V.addK0 ?_
    refine V.addN0 ?_
    refine v_callP (mc := 0) (ms := 0) 2 dJ4_append_3_30 (m_J4_putStringAt hG hf) rfl hh24 rfl (lw_meth q2295) q94 q2292 q2294 q2293 q1353 rfl rfl (by decide +kernel) (by decide) rfl (cat_len (Nat.le_of_ble_eq_true rfl)) (kk_V fun h25 hg => ?_) (fun _ _ _ hx => hx.elim)
    replace hf := hg
    clear hg
    refine v_qload_n (r := (some a0)) (i := 0) dJ4_append_3_33 rfl rfl ?_
    refine v_dup dJ4_append_3_34 (rf_cat _) ?_
    replace hf := gI_e hf
    obtain ⟨w27, fs28, i26, hh29, hk30, hf⟩ := hf
    refine v_getf (T := TJ5) (ci := 13) 3 dJ4_append_3_35 q263 rfl in_J5 (Nat.le_of_ble_eq_true rfl) (Or.inl rfl) hh29 hk30 ?_
    refine v_iload_n (i := 2) dJ4_append_3_38 rfl rfl ?_
    refine v_iadd dJ4_append_3_39 ?_
    replace hf := pF_e hf
    obtain ⟨fs31, hh32, hf⟩ := hf
    refine v_putf (v := .int (i26 + i7)) (T := TJ5) (ci := 13) (ty := .int) 3 dJ4_append_3_40 q263 rfl in_J5 tyJ5 tyJ5_ok nmJ5 (Nat.le_of_ble_eq_true rfl) (Or.inl rfl) rfl (by decide +kernel) rfl rfl hh32 ?_
    obtain ⟨h33, eh33⟩ : ∃ z, z = hs h25 a0 (true, .inr (13, fs31.set 3 (.int (i26 + i7)))) := ⟨_, rfl⟩
    try rw [← eh33] at hf
    rw [← eh33]
    refine v_qload_n (r := (some a0)) (i := 0) dJ4_append_3_43 rfl rfl ?_
    exact v_qret (r := (some a0)) dJ4_append_3_44 rfl (Or.inl ⟨_, rfl⟩) ⟨_, rfl, hf⟩
  · replace hf := hf.1 e2
    subst e2
    refine v_qload_n (r := (some a0)) (i := 0) dJ4_append_3_4 rfl rfl ?_
    exact hf.elim
abbrev Y_J5_append_3 : Yt := (yJ5_append_3, some (.object "java/lang/StringBuilder"), 6, 154, [])
def f_J5_append_3 (G : Gt) (h : Hp) (t_0 : Option Nat) (r_1 : Option Nat) (K : Option Nat → Hp → Prop) : Prop :=
rv h t_0 13 (f_J4_append_3 G h t_0 r_1 (fun r5 h4 =>
K t_0 h4))
theorem m_J5_append_3 {G : Gt} {h : Hp} {a0 : Nat} {r_1 : Option Nat} {K : Option Nat → Hp → Prop} (hG : Base G) (hf : f_J5_append_3 G h (some a0) r_1 K) : MM G Y_J5_append_3 cJ5_append_3 2 1 100 [.ref a0, va_rf r_1] h (kR K) xN := by
  refine mm_of hG (by decide +kernel) rfl (ac_c rfl (ac_c (rf_cat _) ac_nil)) (Nat.le_of_ble_eq_true rfl) (fun E _ _ => ?_)
  show V G E Y_J5_append_3 cJ5_append_3 2 (QM G E (kR K) xN) h 1 100 0 [(0, .ref a0), (1, va_rf r_1)] []
  unfold f_J5_append_3 at hf
  refine v_qload_n (r := (some a0)) (i := 0) dJ5_append_3_0 rfl rfl ?_
  refine v_qload_n (r := r_1) (i := 1) dJ5_append_3_1 rfl rfl ?_
  replace hf := rv_e hf
  obtain ⟨w1, fs2, hh3, hf⟩ := hf
  refine v_callSU (mc := 1) (ms := 100) 1 dJ5_append_3_2 (m_J4_append_3 hG hf) rfl hh3 rfl (lw_SU q2281 q2876 q272 q2282 q94 q2283) rfl (by decide +kernel) (by decide) rfl (cat_len (Nat.le_of_ble_eq_true rfl)) (kk_R fun r5 h4 hg => ?_) (fun _ _ _ hx => hx.elim)
  replace hf := hg
  clear hg
  refine v_pop dJ5_append_3_5 (rf_cat _) ?_
  refine v_qload_n (r := (some a0)) (i := 0) dJ5_append_3_6 rfl rfl ?_
  exact v_qret (r := (some a0)) dJ5_append_3_7 rfl (Or.inl ⟨_, rfl⟩) ⟨_, rfl, hf⟩
abbrev Y_J4_getValue : Yt := (yJ4_getValue, some (.array (.byte)), 1, 40, [])
def f_J4_getValue (G : Gt) (h : Hp) (t_0 : Option Nat) (K : Option Nat → Hp → Prop) : Prop :=
gR h t_0 13 0 fun r1 =>
K r1 h
theorem m_J4_getValue {G : Gt} {h : Hp} {a0 : Nat} {K : Option Nat → Hp → Prop} (hG : Base G) (hf : f_J4_getValue G h (some a0) K) : MM G Y_J4_getValue cJ4_getValue 1 0 0 [.ref a0] h (kR K) xN := by
  refine mm_of hG (by decide +kernel) rfl (ac_c rfl ac_nil) (Nat.le_of_ble_eq_true rfl) (fun E _ _ => ?_)
  show V G E Y_J4_getValue cJ4_getValue 1 (QM G E (kR K) xN) h 0 0 0 [(0, .ref a0)] []
  unfold f_J4_getValue at hf
  refine v_qload_n (r := (some a0)) (i := 0) dJ4_getValue_0 rfl rfl ?_
  replace hf := gR_e hf
  obtain ⟨w2, fs3, r1, hh4, hk5, hf⟩ := hf
  refine v_getf (T := TJ5) (ci := 13) 0 dJ4_getValue_1 q259 rfl in_J5 (Nat.le_of_ble_eq_true rfl) (Or.inl rfl) hh4 hk5 ?_
  exact v_qret (r := r1) dJ4_getValue_4 rfl (Or.inr ⟨_, rfl⟩) ⟨_, rfl, hf⟩
abbrev Y_J4_length : Yt := (yJ4_length, some (.int), 1, 40, [])
def f_J4_length (G : Gt) (h : Hp) (t_0 : Option Nat) (K : Int32 → Hp → Prop) : Prop :=
gI h t_0 13 3 fun i1 =>
K i1 h
theorem m_J4_length {G : Gt} {h : Hp} {a0 : Nat} {K : Int32 → Hp → Prop} (hG : Base G) (hf : f_J4_length G h (some a0) K) : MM G Y_J4_length cJ4_length 1 0 0 [.ref a0] h (kI K) xN := by
  refine mm_of hG (by decide +kernel) rfl (ac_c rfl ac_nil) (Nat.le_of_ble_eq_true rfl) (fun E _ _ => ?_)
  show V G E Y_J4_length cJ4_length 1 (QM G E (kI K) xN) h 0 0 0 [(0, .ref a0)] []
  unfold f_J4_length at hf
  refine v_qload_n (r := (some a0)) (i := 0) dJ4_length_0 rfl rfl ?_
  replace hf := gI_e hf
  obtain ⟨w2, fs3, i1, hh4, hk5, hf⟩ := hf
  refine v_getf (T := TJ5) (ci := 13) 3 dJ4_length_1 q263 rfl in_J5 (Nat.le_of_ble_eq_true rfl) (Or.inl rfl) hh4 hk5 ?_
  exact v_iret dJ4_length_4 rfl ⟨_, rfl, hf⟩
abbrev Y_J5_length : Yt := (yJ5_length, some (.int), 2, 60, [])
def f_J5_length (G : Gt) (h : Hp) (t_0 : Option Nat) (K : Int32 → Hp → Prop) : Prop :=
rv h t_0 13 (f_J4_length G h t_0 (fun i5 h4 =>
K i5 h4))
theorem m_J5_length {G : Gt} {h : Hp} {a0 : Nat} {K : Int32 → Hp → Prop} (hG : Base G) (hf : f_J5_length G h (some a0) K) : MM G Y_J5_length cJ5_length 1 0 0 [.ref a0] h (kI K) xN := by
  refine mm_of hG (by decide +kernel) rfl (ac_c rfl ac_nil) (Nat.le_of_ble_eq_true rfl) (fun E _ _ => ?_)
  show V G E Y_J5_length cJ5_length 1 (QM G E (kI K) xN) h 0 0 0 [(0, .ref a0)] []
  unfold f_J5_length at hf
  refine v_qload_n (r := (some a0)) (i := 0) dJ5_length_0 rfl rfl ?_
  replace hf := rv_e hf
  obtain ⟨w1, fs2, hh3, hf⟩ := hf
  refine V.addK0 ?_
  refine V.addN0 ?_
  refine v_callSU (mc := 0) (ms := 0) 0 dJ5_length_1 (m_J4_length hG hf) rfl hh3 rfl (lw_SU q1975 q2866 q272 q1976 q94 q1977) rfl (by decide +kernel) (by decide) rfl (cat_len (Nat.le_of_ble_eq_true rfl)) (kk_I fun i5 h4 hg => ?_) (fun _ _ _ hx => hx.elim)
  replace hf := hg
  clear hg
  exact v_iret dJ5_length_4 rfl ⟨_, rfl, hf⟩
abbrev Y_J11_checkLength : Yt := (yJ11_checkLength, none, 1, 40, [])
def f_J11_checkLength (G : Gt) (h : Hp) (i_0 : Int32) (i_1 : Int32) (K : Hp → Prop) : Prop :=
((i_0 ≤ i_1 → K h) ∧
(¬ (i_0 ≤ i_1) → False))
theorem m_J11_checkLength {G : Gt} {h : Hp} {i_0 : Int32} {i_1 : Int32} {K : Hp → Prop} (hG : Base G) (hf : f_J11_checkLength G h i_0 i_1 K) : MM G Y_J11_checkLength cJ11_checkLength 2 0 0 [.int i_0, .int i_1] h (kV K) xN := by
  refine mm_of hG (by decide +kernel) rfl (ac_c rfl (ac_c rfl ac_nil)) (Nat.le_of_ble_eq_true rfl) (fun E _ _ => ?_)
  show V G E Y_J11_checkLength cJ11_checkLength 2 (QM G E (kV K) xN) h 0 0 0 [(0, .int i_0), (1, .int i_1)] []
  unfold f_J11_checkLength at hf
  refine v_iload_n (i := 1) dJ11_checkLength_0 rfl rfl ?_
  refine v_iload_n (i := 0) dJ11_checkLength_1 rfl rfl ?_
  refine v_icmp_ge 37 dJ11_checkLength_2 (by decide) (fun c1 => ?_) (fun c1 => ?_)
  · replace hf := hf.1 c1
    exact v_vret dJ11_checkLength_37 rfl ⟨rfl, hf⟩
  · replace hf := hf.2 c1
    exact hf.elim
abbrev Y_J11_copyOfRangeByte : Yt := (yJ11_copyOfRangeByte, some (.array (.byte)), 2, 61, [])
def f_J11_copyOfRangeByte (G : Gt) (h : Hp) (r_0 : Option Nat) (i_1 : Int32) (i_2 : Int32) (K : Option Nat → Hp → Prop) : Prop :=
f_J11_checkLength G h i_1 i_2 (fun h1 =>
nD (i_2 - i_1) 100 fun N4 =>
nA h1 1 (N4, .inl (fun _ => 0)) fun a2 h3 =>
aL h3 r_0 fun i10 =>
f_J10_min G h3 (i10 - i_1) (i_2 - i_1) (fun i12 h11 =>
cB h11 r_0 i_1 (some a2) (0 : Int32) i12 fun h24 =>
K (some a2) h24))
theorem m_J11_copyOfRangeByte {G : Gt} {h : Hp} {r_0 : Option Nat} {i_1 : Int32} {i_2 : Int32} {K : Option Nat → Hp → Prop} (hG : Base G) (hf : f_J11_copyOfRangeByte G h r_0 i_1 i_2 K) : MM G Y_J11_copyOfRangeByte cJ11_copyOfRangeByte 5 1 100 [va_rf r_0, .int i_1, .int i_2] h (kR K) xN := by
  refine mm_of hG (by decide +kernel) rfl (ac_c (rf_cat _) (ac_c rfl (ac_c rfl ac_nil))) (Nat.le_of_ble_eq_true rfl) (fun E _ _ => ?_)
  show V G E Y_J11_copyOfRangeByte cJ11_copyOfRangeByte 5 (QM G E (kR K) xN) h 1 100 0 [(0, va_rf r_0), (1, .int i_1), (2, .int i_2)] []
  unfold f_J11_copyOfRangeByte at hf
  refine v_iload_n (i := 1) dJ11_copyOfRangeByte_0 rfl rfl ?_
  refine v_iload_n (i := 2) dJ11_copyOfRangeByte_1 rfl rfl ?_
  refine V.addK0 ?_
  refine V.addN0 ?_
  refine v_callS (mc := 0) (ms := 0) 2 dJ11_copyOfRangeByte_2 (m_J11_checkLength hG hf) rfl (lw_S q2333 q2334 q103 q2335) rfl (by decide +kernel) (by decide) rfl (cat_len (Nat.le_of_ble_eq_true rfl)) (kk_V fun h1 hg => ?_) (fun _ _ _ hx => hx.elim)
  replace hf := hg
  clear hg
  refine v_iload_n (i := 2) dJ11_copyOfRangeByte_5 rfl rfl ?_
  refine v_iload_n (i := 1) dJ11_copyOfRangeByte_6 rfl rfl ?_
  refine v_isub dJ11_copyOfRangeByte_7 ?_
  refine v_istore_n (i := 3) (lv' := [(0, va_rf r_0), (1, .int i_1), (2, .int i_2), (3, .int (i_2 - i_1))]) dJ11_copyOfRangeByte_8 rfl (Nat.le_of_ble_eq_true rfl) rfl rfl ?_
  refine v_iload_n (i := 3) dJ11_copyOfRangeByte_9 rfl rfl ?_
  obtain ⟨N4, hzN4, hbN4, hf⟩ := hf
  refine V.weakN (b := 100) hbN4 ?_
  refine v_newa (t := 1) (N := N4) (x := (N4, .inl (fun _ => 0))) dJ11_copyOfRangeByte_10 (Nat.le_of_ble_eq_true rfl) rfl q273 (fun _ => rfl) hzN4 (Nat.le_trans (Nat.mul_le_mul_right _ hbN4) (Nat.le_of_ble_eq_true rfl)) (fun a2 ha2 => ?_)
  replace hf := hf a2 ha2
  obtain ⟨h3, eh3⟩ : ∃ z, z = hs h1 a2 (true, .inl (1, (N4, .inl (fun _ => 0)))) := ⟨_, rfl⟩
  try rw [← eh3] at hf
  rw [← eh3]
  refine v_astore (i := 4) (lv' := [(0, va_rf r_0), (1, .int i_1), (2, .int i_2), (3, .int (i_2 - i_1)), (4, .ref a2)]) dJ11_copyOfRangeByte_12 (Nat.le_of_ble_eq_true rfl) rfl rfl ?_
  refine v_qload_n (r := r_0) (i := 0) dJ11_copyOfRangeByte_14 rfl rfl ?_
  refine v_iload_n (i := 1) dJ11_copyOfRangeByte_15 rfl rfl ?_
  refine v_aload (i := 4) dJ11_copyOfRangeByte_16 rfl ?_
  refine v_iconst (v := 0) dJ11_copyOfRangeByte_18 (by decide) ?_
  refine v_qload_n (r := r_0) (i := 0) dJ11_copyOfRangeByte_19 rfl rfl ?_
  obtain ⟨a5, rfl⟩ := aL_s hf
  replace hf := aL_e hf
  obtain ⟨w6, t7, x8, hh9, i10, ei10, hf⟩ := hf
  refine v_alen dJ11_copyOfRangeByte_20 hh9 ei10.symm ?_
  refine v_iload_n (i := 1) dJ11_copyOfRangeByte_21 rfl rfl ?_
  refine v_isub dJ11_copyOfRangeByte_22 ?_
  refine v_iload_n (i := 3) dJ11_copyOfRangeByte_23 rfl rfl ?_
  refine V.addK0 ?_
  refine V.addN0 ?_
  refine v_callS (mc := 0) (ms := 0) 2 dJ11_copyOfRangeByte_24 (m_J10_min hG hf) rfl (lw_S q492 q493 q102 q494) rfl (by decide +kernel) (by decide) rfl (cat_len (Nat.le_of_ble_eq_true rfl)) (kk_I fun i12 h11 hg => ?_) (fun _ _ _ hx => hx.elim)
  replace hf := hg
  clear hg
  replace hf := cB_e hf
  obtain ⟨w13, N14, f15, N16, g17, hh18, hh19, hp20, hq21, hq22, hq23, hf⟩ := hf
  refine v_copyB dJ11_copyOfRangeByte_27 q495 q497 q496 q104 hh18 hh19 hp20.1 hp20.2.1 hp20.2.2 hq21 hq22 hq23 (cat_len (Nat.le_of_ble_eq_true rfl)) (Nat.le_of_ble_eq_true rfl) (Nat.le_of_ble_eq_true rfl) ?_
  obtain ⟨h24, eh24⟩ : ∃ z, z = hs h11 a2 (true, .inl (1, N16, .inl (va_cpy f15 g17 (i_1).toNatClampNeg ((0 : Int32)).toNatClampNeg (i12).toNatClampNeg))) := ⟨_, rfl⟩
  try rw [← eh24] at hf
  rw [← eh24]
  refine v_aload (i := 4) dJ11_copyOfRangeByte_30 rfl ?_
  exact v_qret (r := (some a2)) dJ11_copyOfRangeByte_32 rfl (Or.inr ⟨_, rfl⟩) ⟨_, rfl, hf⟩
abbrev Y_J11_copyOfRange : Yt := (yJ11_copyOfRange, some (.array (.byte)), 3, 85, [])
def f_J11_copyOfRange (G : Gt) (h : Hp) (r_0 : Option Nat) (i_1 : Int32) (i_2 : Int32) (K : Option Nat → Hp → Prop) : Prop :=
((¬ (i_1 = 0) → f_J11_copyOfRangeByte G h r_0 i_1 i_2 (fun r3 h2 =>
K r3 h2)) ∧
(i_1 = 0 → aL h r_0 fun i9 =>
((i_2 = i9 → False) ∧
(¬ (i_2 = i9) → f_J11_copyOfRangeByte G h r_0 i_1 i_2 (fun r12 h11 =>
K r12 h11)))))
theorem m_J11_copyOfRange {G : Gt} {h : Hp} {r_0 : Option Nat} {i_1 : Int32} {i_2 : Int32} {K : Option Nat → Hp → Prop} (hG : Base G) (hf : f_J11_copyOfRange G h r_0 i_1 i_2 K) : MM G Y_J11_copyOfRange cJ11_copyOfRange 3 1 100 [va_rf r_0, .int i_1, .int i_2] h (kR K) xN := by
  refine mm_of hG (by decide +kernel) rfl (ac_c (rf_cat _) (ac_c rfl (ac_c rfl ac_nil))) (Nat.le_of_ble_eq_true rfl) (fun E _ _ => ?_)
  show V G E Y_J11_copyOfRange cJ11_copyOfRange 3 (QM G E (kR K) xN) h 1 100 0 [(0, va_rf r_0), (1, .int i_1), (2, .int i_2)] []
  unfold f_J11_copyOfRange at hf
  refine v_iload_n (i := 1) dJ11_copyOfRange_0 rfl rfl ?_
  refine v_if_ne 10 dJ11_copyOfRange_1 (by decide) (fun c1 => ?_) (fun c1 => ?_)
  · replace hf := hf.1 c1
    refine v_qload_n (r := r_0) (i := 0) dJ11_copyOfRange_10 rfl rfl ?_
    refine v_iload_n (i := 1) dJ11_copyOfRange_11 rfl rfl ?_
    refine v_iload_n (i := 2) dJ11_copyOfRange_12 rfl rfl ?_
    refine v_callS (mc := 1) (ms := 100) 3 dJ11_copyOfRange_13 (m_J11_copyOfRangeByte hG hf) rfl (lw_S q2330 q2331 q103 q2332) rfl (by decide +kernel) (by decide) rfl (cat_len (Nat.le_of_ble_eq_true rfl)) (kk_R fun r3 h2 hg => ?_) (fun _ _ _ hx => hx.elim)
    replace hf := hg
    clear hg
    exact v_qret (r := r3) dJ11_copyOfRange_16 rfl (Or.inr ⟨_, rfl⟩) ⟨_, rfl, hf⟩
  · replace hf := hf.2 c1
    refine v_iload_n (i := 2) dJ11_copyOfRange_4 rfl rfl ?_
    refine v_qload_n (r := r_0) (i := 0) dJ11_copyOfRange_5 rfl rfl ?_
    obtain ⟨a4, rfl⟩ := aL_s hf
    replace hf := aL_e hf
    obtain ⟨w5, t6, x7, hh8, i9, ei9, hf⟩ := hf
    refine v_alen dJ11_copyOfRange_6 hh8 ei9.symm ?_
    refine v_icmp_eq 17 dJ11_copyOfRange_7 (by decide) (fun c10 => ?_) (fun c10 => ?_)
    · replace hf := hf.1 c10
      refine v_qload_n (r := (some a4)) (i := 0) dJ11_copyOfRange_17 rfl rfl ?_
      exact hf.elim
    · replace hf := hf.2 c10
      refine v_qload_n (r := (some a4)) (i := 0) dJ11_copyOfRange_10 rfl rfl ?_
      refine v_iload_n (i := 1) dJ11_copyOfRange_11 rfl rfl ?_
      refine v_iload_n (i := 2) dJ11_copyOfRange_12 rfl rfl ?_
      refine v_callS (mc := 1) (ms := 100) 3 dJ11_copyOfRange_13 (m_J11_copyOfRangeByte hG hf) rfl (lw_S q2330 q2331 q103 q2332) rfl (by decide +kernel) (by decide) rfl (cat_len (Nat.le_of_ble_eq_true rfl)) (kk_R fun r12 h11 hg => ?_) (fun _ _ _ hx => hx.elim)
      replace hf := hg
      clear hg
      exact v_qret (r := r12) dJ11_copyOfRange_16 rfl (Or.inr ⟨_, rfl⟩) ⟨_, rfl, hf⟩
abbrev Y_J6_init_2 : Yt := (yJ6_init_2, none, 4, 107, [])
def f_J6_init_2 (G : Gt) (h : Hp) (t_0 : Option Nat) (r_1 : Option Nat) (r_2 : Option Nat) (K : Hp → Prop) : Prop :=
rv h r_1 13 (f_J4_getValue G h r_1 (fun r6 h5 =>
rv h5 r_1 13 (f_J5_length G h5 r_1 (fun i11 h10 =>
rv h10 r_1 13 (f_J4_isLatin1 G h10 r_1 (fun i16 h15 =>
((i16 = 0 → (((1 : Int32) = 0 → ((narrow .byte (.int (1 : Int32)) = .int (1 : Int32) ∧ fits .byte (.int (1 : Int32)) = true) ∧ pF h15 t_0 14 1 (.int (1 : Int32)) fun h21 =>
f_J11_copyOfRange G h21 r6 (0 : Int32) (i11 <<< ((1 : Int32) &&& 31)) (fun r23 h22 =>
pF h22 t_0 14 0 (va_rf r23) fun h26 =>
K h26))) ∧
(¬ ((1 : Int32) = 0) → gI h15 r_1 13 2 fun i27 =>
((i27 = 0 → ((narrow .byte (.int (1 : Int32)) = .int (1 : Int32) ∧ fits .byte (.int (1 : Int32)) = true) ∧ pF h15 t_0 14 1 (.int (1 : Int32)) fun h35 =>
f_J11_copyOfRange G h35 r6 (0 : Int32) (i11 <<< ((1 : Int32) &&& 31)) (fun r37 h36 =>
pF h36 t_0 14 0 (va_rf r37) fun h40 =>
K h40))) ∧
(¬ (i27 = 0) → False))))) ∧
(¬ (i16 = 0) → ((narrow .byte (.int (0 : Int32)) = .int (0 : Int32) ∧ fits .byte (.int (0 : Int32)) = true) ∧ pF h15 t_0 14 1 (.int (0 : Int32)) fun h43 =>
f_J11_copyOfRange G h43 r6 (0 : Int32) i11 (fun r45 h44 =>
pF h44 t_0 14 0 (va_rf r45) fun h48 =>
K h48))))))))))
theorem m_J6_init_2 {G : Gt} {h : Hp} {a0 : Nat} {r_1 : Option Nat} {r_2 : Option Nat} {K : Hp → Prop} (hG : Base G) (hf : f_J6_init_2 G h (some a0) r_1 r_2 K) : MM G Y_J6_init_2 cJ6_init_2 5 1 100 [.ref a0, va_rf r_1, va_rf r_2] h (kV K) xN := by
  refine mm_of hG (by decide +kernel) rfl (ac_c rfl (ac_c (rf_cat _) (ac_c (rf_cat _) ac_nil))) (Nat.le_of_ble_eq_true rfl) (fun E _ _ => ?_)
  show V G E Y_J6_init_2 cJ6_init_2 5 (QM G E (kV K) xN) h 1 100 0 [(0, .ref a0), (1, va_rf r_1), (2, va_rf r_2)] []
  unfold f_J6_init_2 at hf
  refine v_qload_n (r := (some a0)) (i := 0) dJ6_init_2_0 rfl rfl ?_
  refine v_objInit dJ6_init_2_1 q2319 q153 q154 (cat_len (Nat.le_of_ble_eq_true rfl)) (Nat.le_of_ble_eq_true rfl) (Nat.le_of_ble_eq_true rfl) ?_
  refine v_qload_n (r := r_1) (i := 1) dJ6_init_2_4 rfl rfl ?_
  obtain ⟨a1, rfl⟩ := rv_s hf
  replace hf := rv_e hf
  obtain ⟨w2, fs3, hh4, hf⟩ := hf
  refine V.addK0 ?_
  refine V.addN0 ?_
  refine v_callU (mc := 0) (ms := 0) 0 dJ6_init_2_5 (m_J4_getValue hG hf) rfl hh4 rfl (lw_U q2320 q2322 q2323 q2321 q94 q2324) rfl rfl (by decide +kernel) (by decide) rfl (cat_len (Nat.le_of_ble_eq_true rfl)) (kk_R fun r6 h5 hg => ?_) (fun _ _ _ hx => hx.elim)
  replace hf := hg
  clear hg
  refine v_qstore_n (i := 3) (r := r6) (lv' := [(0, va_rf (some a0)), (1, va_rf (some a1)), (2, va_rf r_2), (3, va_rf r6)]) dJ6_init_2_8 rfl (Nat.le_of_ble_eq_true rfl) rfl rfl ?_
  refine v_qload_n (r := (some a1)) (i := 1) dJ6_init_2_9 rfl rfl ?_
  replace hf := rv_e hf
  obtain ⟨w7, fs8, hh9, hf⟩ := hf
  refine V.addK0 ?_
  refine V.addN0 ?_
  refine v_callO (mc := 0) (ms := 0) 0 dJ6_init_2_10 (m_J5_length hG hf) rfl hh9 rfl (lw_O q2325 q2866 q1976 q2880 q1972 q95 q1974) q1977 rfl (by decide +kernel) (by decide) rfl (cat_len (Nat.le_of_ble_eq_true rfl)) (kk_I fun i11 h10 hg => ?_) (fun _ _ _ hx => hx.elim)
  replace hf := hg
  clear hg
  refine v_istore (i := 4) (lv' := [(0, va_rf (some a0)), (1, va_rf (some a1)), (2, va_rf r_2), (3, va_rf r6), (4, .int i11)]) dJ6_init_2_13 (Nat.le_of_ble_eq_true rfl) rfl rfl ?_
  refine v_qload_n (r := (some a1)) (i := 1) dJ6_init_2_15 rfl rfl ?_
  replace hf := rv_e hf
  obtain ⟨w12, fs13, hh14, hf⟩ := hf
  refine V.addK0 ?_
  refine V.addN0 ?_
  refine v_callU (mc := 0) (ms := 0) 0 dJ6_init_2_16 (m_J4_isLatin1 hG hf) rfl hh14 rfl (lw_U q2326 q1352 q1353 q1351 q94 q1354) rfl rfl (by decide +kernel) (by decide) rfl (cat_len (Nat.le_of_ble_eq_true rfl)) (kk_I fun i16 h15 hg => ?_) (fun _ _ _ hx => hx.elim)
  replace hf := hg
  clear hg
  refine v_if_eq 41 dJ6_init_2_19 (by decide) (fun c17 => ?_) (fun c17 => ?_)
  · replace hf := hf.1 c17
    refine v_gets dJ6_init_2_41 q1009 (List.mem_of_getElem? (i := 0) rfl) (Or.inl rfl) ?_
    refine v_if_eq 79 dJ6_init_2_44 (by decide) (fun c18 => ?_) (fun c18 => ?_)
    · replace hf := hf.1 c18
      refine v_qload_n (r := (some a0)) (i := 0) dJ6_init_2_79 rfl rfl ?_
      refine v_iconst (v := 1) dJ6_init_2_80 (by decide) ?_
      obtain ⟨hnr, hf⟩ := hf
      replace hf := pF_e hf
      obtain ⟨fs19, hh20, hf⟩ := hf
      refine v_putfF (v := .int (1 : Int32)) (T := TJ6) (ci := 14) (ty := .byte) 1 dJ6_init_2_81 q2347 rfl in_J6 tyJ6 tyJ6_ok nmJ6 (Nat.le_of_ble_eq_true rfl) (Or.inl rfl) rfl rfl rfl (by decide +kernel) hnr.1 hnr.2 hh20 ?_
      obtain ⟨h21, eh21⟩ : ∃ z, z = hs h15 a0 (true, .inr (14, fs19.set 1 (.int (1 : Int32)))) := ⟨_, rfl⟩
      try rw [← eh21] at hf
      rw [← eh21]
      refine v_qload_n (r := (some a0)) (i := 0) dJ6_init_2_84 rfl rfl ?_
      refine v_qload_n (r := r6) (i := 3) dJ6_init_2_85 rfl rfl ?_
      refine v_iconst (v := 0) dJ6_init_2_86 (by decide) ?_
      refine v_iload (i := 4) dJ6_init_2_87 rfl ?_
      refine v_iconst (v := 1) dJ6_init_2_89 (by decide) ?_
      refine v_ishl dJ6_init_2_90 ?_
      refine v_callS (mc := 1) (ms := 100) 3 dJ6_init_2_91 (m_J11_copyOfRange hG hf) rfl (lw_S q2327 q2328 q103 q2329) rfl (by decide +kernel) (by decide) rfl (cat_len (Nat.le_of_ble_eq_true rfl)) (kk_R fun r23 h22 hg => ?_) (fun _ _ _ hx => hx.elim)
      replace hf := hg
      clear hg
      replace hf := pF_e hf
      obtain ⟨fs24, hh25, hf⟩ := hf
      refine v_putfF (v := va_rf r23) (T := TJ6) (ci := 14) (ty := .array (.byte)) 0 dJ6_init_2_94 q2346 rfl in_J6 tyJ6 tyJ6_ok nmJ6 (Nat.le_of_ble_eq_true rfl) (Or.inl rfl) rfl rfl rfl (by decide +kernel) (rf_narA _ _) (rf_fitA _ _) hh25 ?_
      obtain ⟨h26, eh26⟩ : ∃ z, z = hs h22 a0 (true, .inr (14, fs24.set 0 (va_rf r23))) := ⟨_, rfl⟩
      try rw [← eh26] at hf
      rw [← eh26]
      exact v_vret dJ6_init_2_97 rfl ⟨rfl, hf⟩
    · replace hf := hf.2 c18
      refine v_qload_n (r := (some a1)) (i := 1) dJ6_init_2_47 rfl rfl ?_
      replace hf := gI_e hf
      obtain ⟨w28, fs29, i27, hh30, hk31, hf⟩ := hf
      refine v_getf (T := TJ5) (ci := 13) 2 dJ6_init_2_48 q262 rfl in_J5 (Nat.le_of_ble_eq_true rfl) (Or.inl rfl) hh30 hk31 ?_
      refine v_if_eq 79 dJ6_init_2_51 (by decide) (fun c32 => ?_) (fun c32 => ?_)
      · replace hf := hf.1 c32
        refine v_qload_n (r := (some a0)) (i := 0) dJ6_init_2_79 rfl rfl ?_
        refine v_iconst (v := 1) dJ6_init_2_80 (by decide) ?_
        obtain ⟨hnr, hf⟩ := hf
        replace hf := pF_e hf
        obtain ⟨fs33, hh34, hf⟩ := hf
        refine v_putfF (v := .int (1 : Int32)) (T := TJ6) (ci := 14) (ty := .byte) 1 dJ6_init_2_81 q2347 rfl in_J6 tyJ6 tyJ6_ok nmJ6 (Nat.le_of_ble_eq_true rfl) (Or.inl rfl) rfl rfl rfl (by decide +kernel) hnr.1 hnr.2 hh34 ?_
        obtain ⟨h35, eh35⟩ : ∃ z, z = hs h15 a0 (true, .inr (14, fs33.set 1 (.int (1 : Int32)))) := ⟨_, rfl⟩
        try rw [← eh35] at hf
        rw [← eh35]
        refine v_qload_n (r := (some a0)) (i := 0) dJ6_init_2_84 rfl rfl ?_
        refine v_qload_n (r := r6) (i := 3) dJ6_init_2_85 rfl rfl ?_
        refine v_iconst (v := 0) dJ6_init_2_86 (by decide) ?_
        refine v_iload (i := 4) dJ6_init_2_87 rfl ?_
        refine v_iconst (v := 1) dJ6_init_2_89 (by decide) ?_
        refine v_ishl dJ6_init_2_90 ?_
        refine v_callS (mc := 1) (ms := 100) 3 dJ6_init_2_91 (m_J11_copyOfRange hG hf) rfl (lw_S q2327 q2328 q103 q2329) rfl (by decide +kernel) (by decide) rfl (cat_len (Nat.le_of_ble_eq_true rfl)) (kk_R fun r37 h36 hg => ?_) (fun _ _ _ hx => hx.elim)
        replace hf := hg
        clear hg
        replace hf := pF_e hf
        obtain ⟨fs38, hh39, hf⟩ := hf
        refine v_putfF (v := va_rf r37) (T := TJ6) (ci := 14) (ty := .array (.byte)) 0 dJ6_init_2_94 q2346 rfl in_J6 tyJ6 tyJ6_ok nmJ6 (Nat.le_of_ble_eq_true rfl) (Or.inl rfl) rfl rfl rfl (by decide +kernel) (rf_narA _ _) (rf_fitA _ _) hh39 ?_
        obtain ⟨h40, eh40⟩ : ∃ z, z = hs h36 a0 (true, .inr (14, fs38.set 0 (va_rf r37))) := ⟨_, rfl⟩
        try rw [← eh40] at hf
        rw [← eh40]
        exact v_vret dJ6_init_2_97 rfl ⟨rfl, hf⟩
      · replace hf := hf.2 c32
        refine v_qload_n (r := (some a0)) (i := 0) dJ6_init_2_54 rfl rfl ?_
        refine v_qload_n (r := r6) (i := 3) dJ6_init_2_55 rfl rfl ?_
        refine v_iconst (v := 0) dJ6_init_2_56 (by decide) ?_
        refine v_iload (i := 4) dJ6_init_2_57 rfl ?_
        exact hf.elim
  · replace hf := hf.2 c17
    refine v_qload_n (r := (some a0)) (i := 0) dJ6_init_2_22 rfl rfl ?_
    refine v_iconst (v := 0) dJ6_init_2_23 (by decide) ?_
    obtain ⟨hnr, hf⟩ := hf
    replace hf := pF_e hf
    obtain ⟨fs41, hh42, hf⟩ := hf
    refine v_putfF (v := .int (0 : Int32)) (T := TJ6) (ci := 14) (ty := .byte) 1 dJ6_init_2_24 q2347 rfl in_J6 tyJ6 tyJ6_ok nmJ6 (Nat.le_of_ble_eq_true rfl) (Or.inl rfl) rfl rfl rfl (by decide +kernel) hnr.1 hnr.2 hh42 ?_
    obtain ⟨h43, eh43⟩ : ∃ z, z = hs h15 a0 (true, .inr (14, fs41.set 1 (.int (0 : Int32)))) := ⟨_, rfl⟩
    try rw [← eh43] at hf
    rw [← eh43]
    refine v_qload_n (r := (some a0)) (i := 0) dJ6_init_2_27 rfl rfl ?_
    refine v_qload_n (r := r6) (i := 3) dJ6_init_2_28 rfl rfl ?_
    refine v_iconst (v := 0) dJ6_init_2_29 (by decide) ?_
    refine v_iload (i := 4) dJ6_init_2_30 rfl ?_
    refine v_callS (mc := 1) (ms := 100) 3 dJ6_init_2_32 (m_J11_copyOfRange hG hf) rfl (lw_S q2327 q2328 q103 q2329) rfl (by decide +kernel) (by decide) rfl (cat_len (Nat.le_of_ble_eq_true rfl)) (kk_R fun r45 h44 hg => ?_) (fun _ _ _ hx => hx.elim)
    replace hf := hg
    clear hg
    replace hf := pF_e hf
    obtain ⟨fs46, hh47, hf⟩ := hf
    refine v_putfF (v := va_rf r45) (T := TJ6) (ci := 14) (ty := .array (.byte)) 0 dJ6_init_2_35 q2346 rfl in_J6 tyJ6 tyJ6_ok nmJ6 (Nat.le_of_ble_eq_true rfl) (Or.inl rfl) rfl rfl rfl (by decide +kernel) (rf_narA _ _) (rf_fitA _ _) hh47 ?_
    obtain ⟨h48, eh48⟩ : ∃ z, z = hs h44 a0 (true, .inr (14, fs46.set 0 (va_rf r45))) := ⟨_, rfl⟩
    try rw [← eh48] at hf
    rw [← eh48]
    refine v_goto 97 dJ6_init_2_38 (by decide) ?_
    exact v_vret dJ6_init_2_97 rfl ⟨rfl, hf⟩
abbrev Y_J6_init : Yt := (yJ6_init, none, 5, 131, [])
def f_J6_init (G : Gt) (h : Hp) (t_0 : Option Nat) (r_1 : Option Nat) (K : Hp → Prop) : Prop :=
f_J6_init_2 G h t_0 r_1 none (fun h1 =>
K h1)
theorem m_J6_init {G : Gt} {h : Hp} {a0 : Nat} {r_1 : Option Nat} {K : Hp → Prop} (hG : Base G) (hf : f_J6_init G h (some a0) r_1 K) : MM G Y_J6_init cJ6_init 2 1 100 [.ref a0, va_rf r_1] h (kV K) xN := by
  refine mm_of hG (by decide +kernel) rfl (ac_c rfl (ac_c (rf_cat _) ac_nil)) (Nat.le_of_ble_eq_true rfl) (fun E _ _ => ?_)
  show V G E Y_J6_init cJ6_init 2 (QM G E (kV K) xN) h 1 100 0 [(0, .ref a0), (1, va_rf r_1)] []
  unfold f_J6_init at hf
  refine v_qload_n (r := (some a0)) (i := 0) dJ6_init_0 rfl rfl ?_
  refine v_qload_n (r := r_1) (i := 1) dJ6_init_1 rfl rfl ?_
  refine v_null dJ6_init_2 ?_
  refine v_callI (mc := 1) (ms := 100) 2 dJ6_init_3 (m_J6_init_2 hG hf) rfl (lw_meth q2318) rfl q96 q2316 q2317 rfl rfl (by decide +kernel) (by decide) rfl (cat_len (Nat.le_of_ble_eq_true rfl)) (kk_V fun h1 hg => ?_) (fun _ _ _ hx => hx.elim)
  replace hf := hg
  clear hg
  exact v_vret dJ6_init_6 rfl ⟨rfl, hf⟩
abbrev Y_J5_toString : Yt := (yJ5_toString, some (.object "java/lang/String"), 6, 152, [])
def f_J5_toString (G : Gt) (h : Hp) (t_0 : Option Nat) (K : Option Nat → Hp → Prop) : Prop :=
nO h 14 [.null, .int 0, .int 0, .int 0] fun a1 h2 =>
f_J6_init G h2 (some a1) t_0 (fun h3 =>
K (some a1) h3)
theorem m_J5_toString {G : Gt} {h : Hp} {a0 : Nat} {K : Option Nat → Hp → Prop} (hG : Base G) (hf : f_J5_toString G h (some a0) K) : MM G Y_J5_toString cJ5_toString 1 2 104 [.ref a0] h (kR K) xN := by
  refine mm_of hG (by decide +kernel) rfl (ac_c rfl ac_nil) (Nat.le_of_ble_eq_true rfl) (fun E _ _ => ?_)
  show V G E Y_J5_toString cJ5_toString 1 (QM G E (kR K) xN) h 2 104 0 [(0, .ref a0)] []
  unfold f_J5_toString at hf
  refine v_new (N := 4) (fs := [.null, .int 0, .int 0, .int 0]) (ci := 14) dJ5_toString_0 q2311 q2312 q96 rfl in_J6 tyJ6 tyJ6_ok rfl (fun a1 ha1 => ?_)
  replace hf := hf a1 ha1
  obtain ⟨h2, eh2⟩ : ∃ z, z = hs h a1 (true, .inr (14, [.null, .int 0, .int 0, .int 0])) := ⟨_, rfl⟩
  try rw [← eh2] at hf
  rw [← eh2]
  refine v_dup dJ5_toString_3 rfl ?_
  refine v_qload_n (r := (some a0)) (i := 0) dJ5_toString_4 rfl rfl ?_
  refine v_callI (mc := 1) (ms := 100) 1 dJ5_toString_5 (m_J6_init hG hf) rfl (lw_meth q2315) rfl q96 q2313 q2314 rfl rfl (by decide +kernel) (by decide) rfl (cat_len (Nat.le_of_ble_eq_true rfl)) (kk_V fun h3 hg => ?_) (fun _ _ _ hx => hx.elim)
  replace hf := hg
  clear hg
  exact v_qret (r := (some a1)) dJ5_toString_8 rfl (Or.inl ⟨_, rfl⟩) ⟨_, rfl, hf⟩
abbrev Y_J11_rangeCheck : Yt := (yJ11_rangeCheck, none, 1, 40, [])
def f_J11_rangeCheck (G : Gt) (h : Hp) (i_0 : Int32) (i_1 : Int32) (i_2 : Int32) (K : Hp → Prop) : Prop :=
((i_1 ≤ i_2 → ((0 ≤ i_1 → ((i_2 ≤ i_0 → K h) ∧
(¬ (i_2 ≤ i_0) → False))) ∧
(¬ (0 ≤ i_1) → False))) ∧
(¬ (i_1 ≤ i_2) → False))
theorem m_J11_rangeCheck {G : Gt} {h : Hp} {i_0 : Int32} {i_1 : Int32} {i_2 : Int32} {K : Hp → Prop} (hG : Base G) (hf : f_J11_rangeCheck G h i_0 i_1 i_2 K) : MM G Y_J11_rangeCheck cJ11_rangeCheck 3 0 0 [.int i_0, .int i_1, .int i_2] h (kV K) xN := by
  refine mm_of hG (by decide +kernel) rfl (ac_c rfl (ac_c rfl (ac_c rfl ac_nil))) (Nat.le_of_ble_eq_true rfl) (fun E _ _ => ?_)
  show V G E Y_J11_rangeCheck cJ11_rangeCheck 3 (QM G E (kV K) xN) h 0 0 0 [(0, .int i_0), (1, .int i_1), (2, .int i_2)] []
  unfold f_J11_rangeCheck at hf
  refine v_iload_n (i := 1) dJ11_rangeCheck_0 rfl rfl ?_
  refine v_iload_n (i := 2) dJ11_rangeCheck_1 rfl rfl ?_
  refine v_icmp_le 46 dJ11_rangeCheck_2 (by decide) (fun c1 => ?_) (fun c1 => ?_)
  · replace hf := hf.1 c1
    refine v_iload_n (i := 1) dJ11_rangeCheck_46 rfl rfl ?_
    refine v_if_ge 59 dJ11_rangeCheck_47 (by decide) (fun c2 => ?_) (fun c2 => ?_)
    · replace hf := hf.1 c2
      refine v_iload_n (i := 2) dJ11_rangeCheck_59 rfl rfl ?_
      refine v_iload_n (i := 0) dJ11_rangeCheck_60 rfl rfl ?_
      refine v_icmp_le 73 dJ11_rangeCheck_61 (by decide) (fun c3 => ?_) (fun c3 => ?_)
      · replace hf := hf.1 c3
        exact v_vret dJ11_rangeCheck_73 rfl ⟨rfl, hf⟩
      · replace hf := hf.2 c3
        exact hf.elim
    · replace hf := hf.2 c2
      exact hf.elim
  · replace hf := hf.2 c1
    exact hf.elim
abbrev Y_J11_fill : Yt := (yJ11_fill, none, 2, 62, [])
def g_J11_fill_0 (G : Gt) (E : Ev) (h : Hp) (k n : Nat) (r_0 : Option Nat) (i_1 : Int32) (i_2 : Int32) (i_3 : Int32) (K : Hp → Prop) : Prop :=
aL h r_0 fun i6 =>
f_J11_rangeCheck G h i6 i_1 i_2 (fun h7 =>
V G E Y_J11_fill cJ11_fill 5 (QM G E (kV K) xN) h7 k n 10 [(0, va_rf r_0), (2, .int i_2), (3, .int i_3), (4, .int i_1)] [])
theorem s_J11_fill_0 {G : Gt} {E : Ev} {h : Hp} {k0 n0 : Nat} {r_0 : Option Nat} {i_1 : Int32} {i_2 : Int32} {i_3 : Int32} {K : Hp → Prop} (hG : Base G) (hA : 0 ≤ k0) (hB : 0 ≤ n0) (hf : g_J11_fill_0 G E h (k0 - 0) (n0 - 0) r_0 i_1 i_2 i_3 K) : V G E Y_J11_fill cJ11_fill 5 (QM G E (kV K) xN) h k0 n0 0 [(0, va_rf r_0), (1, .int i_1), (2, .int i_2), (3, .int i_3)] [] := by
  obtain ⟨k, hk9⟩ : ∃ z, z = k0 - 0 := ⟨_, rfl⟩
  obtain ⟨n, hn9⟩ : ∃ z, z = n0 - 0 := ⟨_, rfl⟩
  rw [← hk9, ← hn9] at hf
  refine V.weak (k' := k + 0) (n' := n + 0) ?_ (by omega) (by omega)
  unfold g_J11_fill_0 at hf
  refine v_qload_n (r := r_0) (i := 0) dJ11_fill_0 rfl rfl ?_
  obtain ⟨a1, rfl⟩ := aL_s hf
  replace hf := aL_e hf
  obtain ⟨w2, t3, x4, hh5, i6, ei6, hf⟩ := hf
  refine v_alen dJ11_fill_1 hh5 ei6.symm ?_
  refine v_iload_n (i := 1) dJ11_fill_2 rfl rfl ?_
  refine v_iload_n (i := 2) dJ11_fill_3 rfl rfl ?_
  refine V.addK0 ?_
  refine V.addN0 ?_
  refine v_callS (mc := 0) (ms := 0) 3 dJ11_fill_4 (m_J11_rangeCheck hG hf) rfl (lw_S q2225 q2226 q103 q2227) rfl (by decide +kernel) (by decide) rfl (cat_len (Nat.le_of_ble_eq_true rfl)) (kk_V fun h7 hg => ?_) (fun _ _ _ hx => hx.elim)
  replace hf := hg
  clear hg
  refine v_iload_n (i := 1) dJ11_fill_7 rfl rfl ?_
  refine v_istore (i := 4) (lv' := [(0, va_rf (some a1)), (1, .int i_1), (2, .int i_2), (3, .int i_3), (4, .int i_1)]) dJ11_fill_8 (Nat.le_of_ble_eq_true rfl) rfl rfl ?_
  refine V.lp (lv' := [(0, va_rf (some a1)), (2, .int i_2), (3, .int i_3), (4, .int i_1)]) [0, 2, 3, 4] rfl ?_
  exact V.weak hf (by omega) (by omega)
def g_J11_fill_10 (G : Gt) (E : Ev) (h : Hp) (k n : Nat) (r_0 : Option Nat) (i_2 : Int32) (i_3 : Int32) (i_4 : Int32) (K : Hp → Prop) : Prop :=
((i_2 ≤ i_4 → K h) ∧
(¬ (i_2 ≤ i_4) → sB h r_0 i_4 i_3 fun h7 =>
V G E Y_J11_fill cJ11_fill 5 (QM G E (kV K) xN) h7 k n 10 [(0, va_rf r_0), (2, .int i_2), (3, .int i_3), (4, .int (i_4 + (1 : Int32)))] []))
theorem s_J11_fill_10 {G : Gt} {E : Ev} {h : Hp} {k0 n0 : Nat} {r_0 : Option Nat} {i_2 : Int32} {i_3 : Int32} {i_4 : Int32} {K : Hp → Prop} (hG : Base G) (hA : 0 ≤ k0) (hB : 0 ≤ n0) (hf : g_J11_fill_10 G E h (k0 - 0) (n0 - 0) r_0 i_2 i_3 i_4 K) : V G E Y_J11_fill cJ11_fill 5 (QM G E (kV K) xN) h k0 n0 10 [(0, va_rf r_0), (2, .int i_2), (3, .int i_3), (4, .int i_4)] [] := by
  obtain ⟨k, hk9⟩ : ∃ z, z = k0 - 0 := ⟨_, rfl⟩
  obtain ⟨n, hn9⟩ : ∃ z, z = n0 - 0 := ⟨_, rfl⟩
  rw [← hk9, ← hn9] at hf
  refine V.weak (k' := k + 0) (n' := n + 0) ?_ (by omega) (by omega)
  unfold g_J11_fill_10 at hf
  refine v_iload (i := 4) dJ11_fill_10 rfl ?_
  refine v_iload_n (i := 2) dJ11_fill_12 rfl rfl ?_
  refine v_icmp_ge 27 dJ11_fill_13 (by decide) (fun c1 => ?_) (fun c1 => ?_)
  · replace hf := hf.1 c1
    exact v_vret dJ11_fill_27 rfl ⟨rfl, hf⟩
  · replace hf := hf.2 c1
    refine v_qload_n (r := r_0) (i := 0) dJ11_fill_16 rfl rfl ?_
    refine v_iload (i := 4) dJ11_fill_17 rfl ?_
    refine v_iload_n (i := 3) dJ11_fill_19 rfl rfl ?_
    obtain ⟨a2, rfl⟩ := sB_s hf
    replace hf := sB_e hf
    obtain ⟨N3, f4, hh5, hi6, hf⟩ := hf
    refine v_bast dJ11_fill_20 hh5 hi6 ?_
    obtain ⟨h7, eh7⟩ : ∃ z, z = hs h a2 (true, .inl (1, N3, .inl (upd f4 (i_4).toNatClampNeg (vp_nar .byte (i_3))))) := ⟨_, rfl⟩
    try rw [← eh7] at hf
    rw [← eh7]
    refine v_iinc (i := 4) (v := i_4 + (1 : Int32)) (lv' := [(0, va_rf (some a2)), (2, .int i_2), (3, .int i_3), (4, .int (i_4 + (1 : Int32)))]) dJ11_fill_21 rfl rfl (Nat.le_of_ble_eq_true rfl) rfl rfl ?_
    refine v_goto 10 dJ11_fill_24 (by decide) ?_
    exact V.weak hf (by omega) (by omega)
theorem b_J11_fill {G : Gt} {h : Hp} {mc ms : Nat} {r_0 : Option Nat} {i_1 : Int32} {i_2 : Int32} {i_3 : Int32} {K : Hp → Prop} (hG : Base G) (hf : ∀ E : Ev, V G E Y_J11_fill cJ11_fill 5 (QM G E (kV K) xN) h mc ms 0 [(0, va_rf r_0), (1, .int i_1), (2, .int i_2), (3, .int i_3)] []) : MM G Y_J11_fill cJ11_fill 5 mc ms [va_rf r_0, .int i_1, .int i_2, .int i_3] h (kV K) xN := mm_of hG (by decide +kernel) rfl (ac_c (rf_cat _) (ac_c rfl (ac_c rfl (ac_c rfl ac_nil)))) (Nat.le_of_ble_eq_true rfl) (fun E _ _ => hf E)
abbrev Y_J29_fillNull : Yt := (yJ29_fillNull, none, 3, 86, [])
def f_J29_fillNull (G : Gt) (h : Hp) (k n : Nat) (r_0 : Option Nat) (i_1 : Int32) (i_2 : Int32) (K : Hp → Prop) : Prop :=
dV G Y_J11_fill cJ11_fill 5 [va_rf r_0, .int i_1, .int i_2, .int (0 : Int32)] h k n (fun h1 k4 n5 =>
K h1) xN
theorem m_J29_fillNull {G : Gt} {h : Hp} {mc ms : Nat} {r_0 : Option Nat} {i_1 : Int32} {i_2 : Int32} {K : Hp → Prop} (hG : Base G) (hA : 0 ≤ mc) (hB : 0 ≤ ms) (hf : f_J29_fillNull G h (mc - 0) (ms - 0) r_0 i_1 i_2 K) : MM G Y_J29_fillNull cJ29_fillNull 3 mc ms [va_rf r_0, .int i_1, .int i_2] h (kV K) xN := by
  refine mm_of hG (by decide +kernel) rfl (ac_c (rf_cat _) (ac_c rfl (ac_c rfl ac_nil))) (Nat.le_of_ble_eq_true rfl) (fun E _ _ => ?_)
  obtain ⟨k, hk9⟩ : ∃ z, z = mc - 0 := ⟨_, rfl⟩
  obtain ⟨n, hn9⟩ : ∃ z, z = ms - 0 := ⟨_, rfl⟩
  rw [← hk9, ← hn9] at hf
  refine V.weak (k' := k + 0) (n' := n + 0) ?_ (by omega) (by omega)
  show V G E Y_J29_fillNull cJ29_fillNull 3 (QM G E (kV K) xN) h (k + 0) (n + 0) 0 [(0, va_rf r_0), (1, .int i_1), (2, .int i_2)] []
  unfold f_J29_fillNull at hf
  refine v_qload_n (r := r_0) (i := 0) dJ29_fillNull_0 rfl rfl ?_
  refine v_iload_n (i := 1) dJ29_fillNull_1 rfl rfl ?_
  refine v_iload_n (i := 2) dJ29_fillNull_2 rfl rfl ?_
  refine v_iconst (v := 0) dJ29_fillNull_3 (by decide) ?_
  obtain ⟨mc2, ms3, hkmc2, hnms3, hM⟩ := hf
  refine V.weak (k' := ((k - mc2) + 0) + mc2) (n' := ((n - ms3) + 0) + ms3) ?_ (by omega) (by omega)
  refine v_callS 4 dJ29_fillNull_4 hM rfl (lw_S q2222 q2223 q103 q2224) rfl (by decide +kernel) (by decide) rfl (cat_len (Nat.le_of_ble_eq_true rfl)) (kk_V fun h1 hg => ?_) (fun _ _ _ hx => hx.elim)
  have hf := hg
  clear hg
  exact v_vret dJ29_fillNull_7 rfl ⟨rfl, hf⟩
abbrev Y_J4_setLength : Yt := (yJ4_setLength, none, 5, 132, [])
def f_J4_setLength (G : Gt) (h : Hp) (k n : Nat) (t_0 : Option Nat) (i_1 : Int32) (K : Hp → Prop) : Prop :=
((0 ≤ i_1 → rv h t_0 13 (f_J4_ensureCapacityInternal G h t_0 i_1 (fun h5 =>
gI h5 t_0 13 3 fun i6 =>
((i_1 ≤ i6 → gI h5 t_0 13 3 fun i12 =>
((i12 ≤ i_1 → pF h5 t_0 13 3 (.int i_1) fun h20 =>
K h20) ∧
(¬ (i12 ≤ i_1) → ((narrow .boolean (.int (1 : Int32)) = .int (1 : Int32) ∧ fits .boolean (.int (1 : Int32)) = true) ∧ pF h5 t_0 13 2 (.int (1 : Int32)) fun h23 =>
pF h23 t_0 13 3 (.int i_1) fun h26 =>
K h26)))) ∧
(¬ (i_1 ≤ i6) → rv h5 t_0 13 (f_J4_isLatin1 G h5 t_0 (fun i31 h30 =>
((i31 = 0 → gR h30 t_0 13 0 fun r33 =>
gI h30 t_0 13 3 fun i38 =>
False) ∧
(¬ (i31 = 0) → gR h30 t_0 13 0 fun r43 =>
gI h30 t_0 13 3 fun i48 =>
dV G Y_J29_fillNull cJ29_fillNull 3 [va_rf r43, .int i48, .int i_1] h30 k n (fun h53 k56 n57 =>
pF h53 t_0 13 3 (.int i_1) fun h60 =>
K h60) xN))))))))) ∧
(¬ (0 ≤ i_1) → False))
theorem m_J4_setLength {G : Gt} {h : Hp} {mc ms : Nat} {a0 : Nat} {i_1 : Int32} {K : Hp → Prop} (hG : Base G) (hA : 1 ≤ mc) (hB : 100 ≤ ms) (hf : f_J4_setLength G h (mc - 1) (ms - 100) (some a0) i_1 K) : MM G Y_J4_setLength cJ4_setLength 2 mc ms [.ref a0, .int i_1] h (kV K) xN := by
  refine mm_of hG (by decide +kernel) rfl (ac_c rfl (ac_c rfl ac_nil)) (Nat.le_of_ble_eq_true rfl) (fun E _ _ => ?_)
  obtain ⟨k, hk9⟩ : ∃ z, z = mc - 1 := ⟨_, rfl⟩
  obtain ⟨n, hn9⟩ : ∃ z, z = ms - 100 := ⟨_, rfl⟩
  rw [← hk9, ← hn9] at hf
  refine V.weak (k' := k + 1) (n' := n + 100) ?_ (by omega) (by omega)
  show V G E Y_J4_setLength cJ4_setLength 2 (QM G E (kV K) xN) h (k + 1) (n + 100) 0 [(0, .ref a0), (1, .int i_1)] []
  unfold f_J4_setLength at hf
  refine v_iload_n (i := 1) dJ4_setLength_0 rfl rfl ?_
  refine v_if_ge 13 dJ4_setLength_1 (by decide) (fun c1 => ?_) (fun c1 => ?_)
  · replace hf := hf.1 c1
    refine v_qload_n (r := (some a0)) (i := 0) dJ4_setLength_13 rfl rfl ?_
    refine v_iload_n (i := 1) dJ4_setLength_14 rfl rfl ?_
    replace hf := rv_e hf
    obtain ⟨w2, fs3, hh4, hf⟩ := hf
    refine v_callP (mc := 1) (ms := 100) 1 dJ4_setLength_15 (m_J4_ensureCapacityInternal hG hf) rfl hh4 rfl (lw_meth q1988) q94 q1985 q1987 q1986 q1353 rfl rfl (by decide +kernel) (by decide) rfl (cat_len (Nat.le_of_ble_eq_true rfl)) (kk_V fun h5 hg => ?_) (fun _ _ _ hx => hx.elim)
    replace hf := hg
    clear hg
    refine v_qload_n (r := (some a0)) (i := 0) dJ4_setLength_18 rfl rfl ?_
    replace hf := gI_e hf
    obtain ⟨w7, fs8, i6, hh9, hk10, hf⟩ := hf
    refine v_getf (T := TJ5) (ci := 13) 3 dJ4_setLength_19 q263 rfl in_J5 (Nat.le_of_ble_eq_true rfl) (Or.inl rfl) hh9 hk10 ?_
    refine v_iload_n (i := 1) dJ4_setLength_22 rfl rfl ?_
    refine v_icmp_ge 63 dJ4_setLength_23 (by decide) (fun c11 => ?_) (fun c11 => ?_)
    · replace hf := hf.1 c11
      refine v_qload_n (r := (some a0)) (i := 0) dJ4_setLength_63 rfl rfl ?_
      replace hf := gI_e hf
      obtain ⟨w13, fs14, i12, hh15, hk16, hf⟩ := hf
      refine v_getf (T := TJ5) (ci := 13) 3 dJ4_setLength_64 q263 rfl in_J5 (Nat.le_of_ble_eq_true rfl) (Or.inl rfl) hh15 hk16 ?_
      refine v_iload_n (i := 1) dJ4_setLength_67 rfl rfl ?_
      refine v_icmp_le 76 dJ4_setLength_68 (by decide) (fun c17 => ?_) (fun c17 => ?_)
      · replace hf := hf.1 c17
        refine v_qload_n (r := (some a0)) (i := 0) dJ4_setLength_76 rfl rfl ?_
        refine v_iload_n (i := 1) dJ4_setLength_77 rfl rfl ?_
        replace hf := pF_e hf
        obtain ⟨fs18, hh19, hf⟩ := hf
        refine v_putf (v := .int i_1) (T := TJ5) (ci := 13) (ty := .int) 3 dJ4_setLength_78 q263 rfl in_J5 tyJ5 tyJ5_ok nmJ5 (Nat.le_of_ble_eq_true rfl) (Or.inl rfl) rfl (by decide +kernel) rfl rfl hh19 ?_
        obtain ⟨h20, eh20⟩ : ∃ z, z = hs h5 a0 (true, .inr (13, fs18.set 3 (.int i_1))) := ⟨_, rfl⟩
        try rw [← eh20] at hf
        rw [← eh20]
        exact v_vret dJ4_setLength_81 rfl ⟨rfl, hf⟩
      · replace hf := hf.2 c17
        refine v_qload_n (r := (some a0)) (i := 0) dJ4_setLength_71 rfl rfl ?_
        refine v_iconst (v := 1) dJ4_setLength_72 (by decide) ?_
        obtain ⟨hnr, hf⟩ := hf
        replace hf := pF_e hf
        obtain ⟨fs21, hh22, hf⟩ := hf
        refine v_putf (v := .int (1 : Int32)) (T := TJ5) (ci := 13) (ty := .boolean) 2 dJ4_setLength_73 q261 rfl in_J5 tyJ5 tyJ5_ok nmJ5 (Nat.le_of_ble_eq_true rfl) (Or.inl rfl) rfl (by decide +kernel) hnr.1 hnr.2 hh22 ?_
        obtain ⟨h23, eh23⟩ : ∃ z, z = hs h5 a0 (true, .inr (13, fs21.set 2 (.int (1 : Int32)))) := ⟨_, rfl⟩
        try rw [← eh23] at hf
        rw [← eh23]
        refine v_qload_n (r := (some a0)) (i := 0) dJ4_setLength_76 rfl rfl ?_
        refine v_iload_n (i := 1) dJ4_setLength_77 rfl rfl ?_
        replace hf := pF_e hf
        obtain ⟨fs24, hh25, hf⟩ := hf
        refine v_putf (v := .int i_1) (T := TJ5) (ci := 13) (ty := .int) 3 dJ4_setLength_78 q263 rfl in_J5 tyJ5 tyJ5_ok nmJ5 (Nat.le_of_ble_eq_true rfl) (Or.inl rfl) rfl (by decide +kernel) rfl rfl hh25 ?_
        obtain ⟨h26, eh26⟩ : ∃ z, z = hs h23 a0 (true, .inr (13, fs24.set 3 (.int i_1))) := ⟨_, rfl⟩
        try rw [← eh26] at hf
        rw [← eh26]
        exact v_vret dJ4_setLength_81 rfl ⟨rfl, hf⟩
    · replace hf := hf.2 c11
      refine v_qload_n (r := (some a0)) (i := 0) dJ4_setLength_26 rfl rfl ?_
      replace hf := rv_e hf
      obtain ⟨w27, fs28, hh29, hf⟩ := hf
      refine V.addK0 ?_
      refine V.addN0 ?_
      refine v_callU (mc := 0) (ms := 0) 0 dJ4_setLength_27 (m_J4_isLatin1 hG hf) rfl hh29 rfl (lw_U q1350 q1352 q1353 q1351 q94 q1354) rfl rfl (by decide +kernel) (by decide) rfl (cat_len (Nat.le_of_ble_eq_true rfl)) (kk_I fun i31 h30 hg => ?_) (fun _ _ _ hx => hx.elim)
      replace hf := hg
      clear hg
      refine v_if_eq 48 dJ4_setLength_30 (by decide) (fun c32 => ?_) (fun c32 => ?_)
      · replace hf := hf.1 c32
        refine v_qload_n (r := (some a0)) (i := 0) dJ4_setLength_48 rfl rfl ?_
        replace hf := gR_e hf
        obtain ⟨w34, fs35, r33, hh36, hk37, hf⟩ := hf
        refine v_getf (T := TJ5) (ci := 13) 0 dJ4_setLength_49 q259 rfl in_J5 (Nat.le_of_ble_eq_true rfl) (Or.inl rfl) hh36 hk37 ?_
        refine v_qload_n (r := (some a0)) (i := 0) dJ4_setLength_52 rfl rfl ?_
        replace hf := gI_e hf
        obtain ⟨w39, fs40, i38, hh41, hk42, hf⟩ := hf
        refine v_getf (T := TJ5) (ci := 13) 3 dJ4_setLength_53 q263 rfl in_J5 (Nat.le_of_ble_eq_true rfl) (Or.inl rfl) hh41 hk42 ?_
        refine v_iload_n (i := 1) dJ4_setLength_56 rfl rfl ?_
        exact hf.elim
      · replace hf := hf.2 c32
        refine v_qload_n (r := (some a0)) (i := 0) dJ4_setLength_33 rfl rfl ?_
        replace hf := gR_e hf
        obtain ⟨w44, fs45, r43, hh46, hk47, hf⟩ := hf
        refine v_getf (T := TJ5) (ci := 13) 0 dJ4_setLength_34 q259 rfl in_J5 (Nat.le_of_ble_eq_true rfl) (Or.inl rfl) hh46 hk47 ?_
        refine v_qload_n (r := (some a0)) (i := 0) dJ4_setLength_37 rfl rfl ?_
        replace hf := gI_e hf
        obtain ⟨w49, fs50, i48, hh51, hk52, hf⟩ := hf
        refine v_getf (T := TJ5) (ci := 13) 3 dJ4_setLength_38 q263 rfl in_J5 (Nat.le_of_ble_eq_true rfl) (Or.inl rfl) hh51 hk52 ?_
        refine v_iload_n (i := 1) dJ4_setLength_41 rfl rfl ?_
        obtain ⟨mc54, ms55, hkmc54, hnms55, hM⟩ := hf
        refine V.weak (k' := ((k - mc54) + 0) + mc54) (n' := ((n - ms55) + 0) + ms55) ?_ (by omega) (by omega)
        refine v_callS 3 dJ4_setLength_42 hM rfl (lw_S q2219 q2220 q125 q2221) rfl (by decide +kernel) (by decide) rfl (cat_len (Nat.le_of_ble_eq_true rfl)) (kk_V fun h53 hg => ?_) (fun _ _ _ hx => hx.elim)
        have hf := hg
        clear hg
        refine v_goto 76 dJ4_setLength_45 (by decide) ?_
        refine v_qload_n (r := (some a0)) (i := 0) dJ4_setLength_76 rfl rfl ?_
        refine v_iload_n (i := 1) dJ4_setLength_77 rfl rfl ?_
        replace hf := pF_e hf
        obtain ⟨fs58, hh59, hf⟩ := hf
        refine v_putf (v := .int i_1) (T := TJ5) (ci := 13) (ty := .int) 3 dJ4_setLength_78 q263 rfl in_J5 tyJ5 tyJ5_ok nmJ5 (Nat.le_of_ble_eq_true rfl) (Or.inl rfl) rfl (by decide +kernel) rfl rfl hh59 ?_
        obtain ⟨h60, eh60⟩ : ∃ z, z = hs h53 a0 (true, .inr (13, fs58.set 3 (.int i_1))) := ⟨_, rfl⟩
        try rw [← eh60] at hf
        rw [← eh60]
        exact v_vret dJ4_setLength_81 rfl ⟨rfl, hf⟩
  · replace hf := hf.2 c1
    exact hf.elim
abbrev Y_J5_setLength : Yt := (yJ5_setLength, none, 6, 153, [])
def f_J5_setLength (G : Gt) (h : Hp) (k n : Nat) (t_0 : Option Nat) (i_1 : Int32) (K : Hp → Prop) : Prop :=
rv h t_0 13 (dV G Y_J4_setLength cJ4_setLength 2 [va_rf t_0, .int i_1] h k n (fun h4 k7 n8 =>
K h4) xN)
theorem m_J5_setLength {G : Gt} {h : Hp} {mc ms : Nat} {a0 : Nat} {i_1 : Int32} {K : Hp → Prop} (hG : Base G) (hA : 0 ≤ mc) (hB : 0 ≤ ms) (hf : f_J5_setLength G h (mc - 0) (ms - 0) (some a0) i_1 K) : MM G Y_J5_setLength cJ5_setLength 2 mc ms [.ref a0, .int i_1] h (kV K) xN := by
  refine mm_of hG (by decide +kernel) rfl (ac_c rfl (ac_c rfl ac_nil)) (Nat.le_of_ble_eq_true rfl) (fun E _ _ => ?_)
  obtain ⟨k, hk9⟩ : ∃ z, z = mc - 0 := ⟨_, rfl⟩
  obtain ⟨n, hn9⟩ : ∃ z, z = ms - 0 := ⟨_, rfl⟩
  rw [← hk9, ← hn9] at hf
  refine V.weak (k' := k + 0) (n' := n + 0) ?_ (by omega) (by omega)
  show V G E Y_J5_setLength cJ5_setLength 2 (QM G E (kV K) xN) h (k + 0) (n + 0) 0 [(0, .ref a0), (1, .int i_1)] []
  unfold f_J5_setLength at hf
  refine v_qload_n (r := (some a0)) (i := 0) dJ5_setLength_0 rfl rfl ?_
  refine v_iload_n (i := 1) dJ5_setLength_1 rfl rfl ?_
  replace hf := rv_e hf
  obtain ⟨w1, fs2, hh3, hf⟩ := hf
  obtain ⟨mc5, ms6, hkmc5, hnms6, hM⟩ := hf
  refine V.weak (k' := ((k - mc5) + 0) + mc5) (n' := ((n - ms6) + 0) + ms6) ?_ (by omega) (by omega)
  refine v_callSU 1 dJ5_setLength_2 hM rfl hh3 rfl (lw_SU q2216 q2874 q272 q2217 q94 q2218) rfl (by decide +kernel) (by decide) rfl (cat_len (Nat.le_of_ble_eq_true rfl)) (kk_V fun h4 hg => ?_) (fun _ _ _ hx => hx.elim)
  have hf := hg
  clear hg
  exact v_vret dJ5_setLength_5 rfl ⟨rfl, hf⟩
abbrev Y_J4_init : Yt := (yJ4_init, none, 1, 40, [])
def f_J4_init (G : Gt) (h : Hp) (t_0 : Option Nat) (i_1 : Int32) (K : Hp → Prop) : Prop :=
(((1 : Int32) = 0 → False) ∧
(¬ ((1 : Int32) = 0) → nD i_1 16 fun N4 =>
nA h 1 (N4, .inl (fun _ => 0)) fun a2 h3 =>
pF h3 t_0 13 0 (.ref a2) fun h7 =>
((narrow .byte (.int (0 : Int32)) = .int (0 : Int32) ∧ fits .byte (.int (0 : Int32)) = true) ∧ pF h7 t_0 13 1 (.int (0 : Int32)) fun h10 =>
K h10)))
theorem m_J4_init {G : Gt} {h : Hp} {a0 : Nat} {i_1 : Int32} {K : Hp → Prop} (hG : Base G) (hf : f_J4_init G h (some a0) i_1 K) : MM G Y_J4_init cJ4_init 2 1 16 [.ref a0, .int i_1] h (kV K) xN := by
  refine mm_of hG (by decide +kernel) rfl (ac_c rfl (ac_c rfl ac_nil)) (Nat.le_of_ble_eq_true rfl) (fun E _ _ => ?_)
  show V G E Y_J4_init cJ4_init 2 (QM G E (kV K) xN) h 1 16 0 [(0, .ref a0), (1, .int i_1)] []
  unfold f_J4_init at hf
  refine v_qload_n (r := (some a0)) (i := 0) dJ4_init_0 rfl rfl ?_
  refine v_objInit dJ4_init_1 q249 q153 q154 (cat_len (Nat.le_of_ble_eq_true rfl)) (Nat.le_of_ble_eq_true rfl) (Nat.le_of_ble_eq_true rfl) ?_
  refine v_gets dJ4_init_4 q250 (List.mem_of_getElem? (i := 0) rfl) (Or.inl rfl) ?_
  refine v_if_eq 25 dJ4_init_7 (by decide) (fun c1 => ?_) (fun c1 => ?_)
  · replace hf := hf.1 c1
    refine v_qload_n (r := (some a0)) (i := 0) dJ4_init_25 rfl rfl ?_
    refine v_iload_n (i := 1) dJ4_init_26 rfl rfl ?_
    exact hf.elim
  · replace hf := hf.2 c1
    refine v_qload_n (r := (some a0)) (i := 0) dJ4_init_10 rfl rfl ?_
    refine v_iload_n (i := 1) dJ4_init_11 rfl rfl ?_
    obtain ⟨N4, hzN4, hbN4, hf⟩ := hf
    refine V.weakN (b := 16) hbN4 ?_
    refine v_newa (t := 1) (N := N4) (x := (N4, .inl (fun _ => 0))) dJ4_init_12 (Nat.le_of_ble_eq_true rfl) rfl q273 (fun _ => rfl) hzN4 (Nat.le_trans (Nat.mul_le_mul_right _ hbN4) (Nat.le_of_ble_eq_true rfl)) (fun a2 ha2 => ?_)
    replace hf := hf a2 ha2
    obtain ⟨h3, eh3⟩ : ∃ z, z = hs h a2 (true, .inl (1, (N4, .inl (fun _ => 0)))) := ⟨_, rfl⟩
    try rw [← eh3] at hf
    rw [← eh3]
    replace hf := pF_e hf
    obtain ⟨fs5, hh6, hf⟩ := hf
    refine v_putf (v := .ref a2) (T := TJ5) (ci := 13) (ty := .array (.byte)) 0 dJ4_init_14 q259 rfl in_J5 tyJ5 tyJ5_ok nmJ5 (Nat.le_of_ble_eq_true rfl) (Or.inl rfl) rfl (by decide +kernel) rfl rfl hh6 ?_
    obtain ⟨h7, eh7⟩ : ∃ z, z = hs h3 a0 (true, .inr (13, fs5.set 0 (.ref a2))) := ⟨_, rfl⟩
    try rw [← eh7] at hf
    rw [← eh7]
    refine v_qload_n (r := (some a0)) (i := 0) dJ4_init_17 rfl rfl ?_
    refine v_iconst (v := 0) dJ4_init_18 (by decide) ?_
    obtain ⟨hnr, hf⟩ := hf
    replace hf := pF_e hf
    obtain ⟨fs8, hh9, hf⟩ := hf
    refine v_putf (v := .int (0 : Int32)) (T := TJ5) (ci := 13) (ty := .byte) 1 dJ4_init_19 q260 rfl in_J5 tyJ5 tyJ5_ok nmJ5 (Nat.le_of_ble_eq_true rfl) (Or.inl rfl) rfl (by decide +kernel) hnr.1 hnr.2 hh9 ?_
    obtain ⟨h10, eh10⟩ : ∃ z, z = hs h7 a0 (true, .inr (13, fs8.set 1 (.int (0 : Int32)))) := ⟨_, rfl⟩
    try rw [← eh10] at hf
    rw [← eh10]
    refine v_goto 38 dJ4_init_22 (by decide) ?_
    exact v_vret dJ4_init_38 rfl ⟨rfl, hf⟩
abbrev Y_J5_init : Yt := (yJ5_init, none, 2, 61, [])
def f_J5_init (G : Gt) (h : Hp) (t_0 : Option Nat) (K : Hp → Prop) : Prop :=
f_J4_init G h t_0 (16 : Int32) (fun h1 =>
K h1)
theorem m_J5_init {G : Gt} {h : Hp} {a0 : Nat} {K : Hp → Prop} (hG : Base G) (hf : f_J5_init G h (some a0) K) : MM G Y_J5_init cJ5_init 1 1 16 [.ref a0] h (kV K) xN := by
  refine mm_of hG (by decide +kernel) rfl (ac_c rfl ac_nil) (Nat.le_of_ble_eq_true rfl) (fun E _ _ => ?_)
  show V G E Y_J5_init cJ5_init 1 (QM G E (kV K) xN) h 1 16 0 [(0, .ref a0)] []
  unfold f_J5_init at hf
  refine v_qload_n (r := (some a0)) (i := 0) dJ5_init_0 rfl rfl ?_
  refine v_bipush (v := 16) dJ5_init_1 (by decide) ?_
  refine v_callI (mc := 1) (ms := 16) 1 dJ5_init_3 (m_J4_init hG hf) rfl (lw_meth q248) rfl q94 q246 q247 rfl rfl (by decide +kernel) (by decide) rfl (cat_len (Nat.le_of_ble_eq_true rfl)) (kk_V fun h1 hg => ?_) (fun _ _ _ hx => hx.elim)
  replace hf := hg
  clear hg
  exact v_vret dJ5_init_6 rfl ⟨rfl, hf⟩
