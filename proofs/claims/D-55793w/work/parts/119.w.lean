/-! walks printed by tools/mkwalk.py -/
set_option maxRecDepth 100000
abbrev Y_X7_init : Yt := (yX7_init, none, 1, 40, [])
def f_X7_init (G : Gt) (h : Hp) (t_0 : Option Nat) (r_1 : Option Nat) (K : Hp → Prop) : Prop :=
pF h t_0 7 1 (va_rf r_1) fun h3 =>
K h3
theorem m_X7_init {G : Gt} {h : Hp} {a0 : Nat} {r_1 : Option Nat} {K : Hp → Prop} (hG : Base G) (hf : f_X7_init G h (some a0) r_1 K) : MM G Y_X7_init cX7_init 2 0 0 [.ref a0, va_rf r_1] h (kV K) xN := by
  refine mm_of hG (by decide +kernel) rfl (ac_c rfl (ac_c (rf_cat _) ac_nil)) (Nat.le_of_ble_eq_true rfl) (fun E _ _ => ?_)
  show V G E Y_X7_init cX7_init 2 (QM G E (kV K) xN) h 0 0 0 [(0, .ref a0), (1, va_rf r_1)] []
  unfold f_X7_init at hf
  refine v_qload_n (r := (some a0)) (i := 0) dX7_init_0 rfl rfl ?_
  refine v_qload_n (r := r_1) (i := 1) dX7_init_1 rfl rfl ?_
  replace hf := pF_e hf
  obtain ⟨fs1, hh2, hf⟩ := hf
  refine v_putfF (v := va_rf r_1) (T := TX7) (ci := 7) (ty := .object "ParityMaze") 1 dX7_init_2 q2050 rfl in_X7 tyX7 tyX7_ok nmX7 (Nat.le_of_ble_eq_true rfl) (Or.inl rfl) rfl rfl rfl (by decide +kernel) (rf_nar _ _) (rf_fit _ _) hh2 ?_
  obtain ⟨h3, eh3⟩ : ∃ z, z = hs h a0 (true, .inr (7, fs1.set 1 (va_rf r_1))) := ⟨_, rfl⟩
  try rw [← eh3] at hf
  rw [← eh3]
  refine v_qload_n (r := (some a0)) (i := 0) dX7_init_5 rfl rfl ?_
  refine v_objInit dX7_init_6 q2048 q153 q154 (cat_len (Nat.le_of_ble_eq_true rfl)) (Nat.le_of_ble_eq_true rfl) (Nat.le_of_ble_eq_true rfl) ?_
  exact v_vret dX7_init_9 rfl ⟨rfl, hf⟩
abbrev Y_J4_charAt : Yt := (yJ4_charAt, some (.char), 3, 83, [])
def f_J4_charAt (G : Gt) (h : Hp) (t_0 : Option Nat) (i_1 : Int32) (K : Int32 → Hp → Prop) : Prop :=
gI h t_0 13 1 fun i1 =>
gR h t_0 13 0 fun r6 =>
gI h t_0 13 3 fun i11 =>
aL h r6 fun i21 =>
f_J10_min G h i11 (i21 >>> (i1 &&& 31)) (fun i23 h22 =>
f_J6_checkIndex G h22 i_1 i23 (fun h24 =>
((¬ (i1 = 0) → False) ∧
(i1 = 0 → aI h24 r6 1 i_1 fun i31 =>
(narrow .char (.int (((i31 &&& (255 : Int32)).toUInt32 % 65536).toInt32)) = .int (((i31 &&& (255 : Int32)).toUInt32 % 65536).toInt32) ∧ K (((i31 &&& (255 : Int32)).toUInt32 % 65536).toInt32) h24)))))
theorem m_J4_charAt {G : Gt} {h : Hp} {a0 : Nat} {i_1 : Int32} {K : Int32 → Hp → Prop} (hG : Base G) (hf : f_J4_charAt G h (some a0) i_1 K) : MM G Y_J4_charAt cJ4_charAt 5 0 0 [.ref a0, .int i_1] h (kI K) xN := by
  refine mm_of hG (by decide +kernel) rfl (ac_c rfl (ac_c rfl ac_nil)) (Nat.le_of_ble_eq_true rfl) (fun E _ _ => ?_)
  show V G E Y_J4_charAt cJ4_charAt 5 (QM G E (kI K) xN) h 0 0 0 [(0, .ref a0), (1, .int i_1)] []
  unfold f_J4_charAt at hf
  refine v_qload_n (r := (some a0)) (i := 0) dJ4_charAt_0 rfl rfl ?_
  replace hf := gI_e hf
  obtain ⟨w2, fs3, i1, hh4, hk5, hf⟩ := hf
  refine v_getf (T := TJ5) (ci := 13) 1 dJ4_charAt_1 q260 rfl in_J5 (Nat.le_of_ble_eq_true rfl) (Or.inl rfl) hh4 hk5 ?_
  refine v_istore_n (i := 2) (lv' := [(0, va_rf (some a0)), (1, .int i_1), (2, .int i1)]) dJ4_charAt_4 rfl (Nat.le_of_ble_eq_true rfl) rfl rfl ?_
  refine v_qload_n (r := (some a0)) (i := 0) dJ4_charAt_5 rfl rfl ?_
  replace hf := gR_e hf
  obtain ⟨w7, fs8, r6, hh9, hk10, hf⟩ := hf
  refine v_getf (T := TJ5) (ci := 13) 0 dJ4_charAt_6 q259 rfl in_J5 (Nat.le_of_ble_eq_true rfl) (Or.inl rfl) hh9 hk10 ?_
  refine v_qstore_n (i := 3) (r := r6) (lv' := [(0, va_rf (some a0)), (1, .int i_1), (2, .int i1), (3, va_rf r6)]) dJ4_charAt_9 rfl (Nat.le_of_ble_eq_true rfl) rfl rfl ?_
  refine v_qload_n (r := (some a0)) (i := 0) dJ4_charAt_10 rfl rfl ?_
  replace hf := gI_e hf
  obtain ⟨w12, fs13, i11, hh14, hk15, hf⟩ := hf
  refine v_getf (T := TJ5) (ci := 13) 3 dJ4_charAt_11 q263 rfl in_J5 (Nat.le_of_ble_eq_true rfl) (Or.inl rfl) hh14 hk15 ?_
  refine v_qload_n (r := r6) (i := 3) dJ4_charAt_14 rfl rfl ?_
  obtain ⟨a16, rfl⟩ := aL_s hf
  replace hf := aL_e hf
  obtain ⟨w17, t18, x19, hh20, i21, ei21, hf⟩ := hf
  refine v_alen dJ4_charAt_15 hh20 ei21.symm ?_
  refine v_iload_n (i := 2) dJ4_charAt_16 rfl rfl ?_
  refine v_ishr dJ4_charAt_17 ?_
  refine V.addK0 ?_
  refine V.addN0 ?_
  refine v_callS (mc := 0) (ms := 0) 2 dJ4_charAt_18 (m_J10_min hG hf) rfl (lw_S q2096 q493 q102 q494) rfl (by decide +kernel) (by decide) rfl (cat_len (Nat.le_of_ble_eq_true rfl)) (kk_I fun i23 h22 hg => ?_) (fun _ _ _ hx => hx.elim)
  replace hf := hg
  clear hg
  refine v_istore (i := 4) (lv' := [(0, va_rf (some a0)), (1, .int i_1), (2, .int i1), (3, va_rf (some a16)), (4, .int i23)]) dJ4_charAt_21 (Nat.le_of_ble_eq_true rfl) rfl rfl ?_
  refine v_iload_n (i := 1) dJ4_charAt_23 rfl rfl ?_
  refine v_iload (i := 4) dJ4_charAt_24 rfl ?_
  refine V.addK0 ?_
  refine V.addN0 ?_
  refine v_callS (mc := 0) (ms := 0) 2 dJ4_charAt_26 (m_J6_checkIndex hG hf) rfl (lw_S q2097 q2035 q96 q2036) rfl (by decide +kernel) (by decide) rfl (cat_len (Nat.le_of_ble_eq_true rfl)) (kk_V fun h24 hg => ?_) (fun _ _ _ hx => hx.elim)
  replace hf := hg
  clear hg
  refine v_iload_n (i := 2) dJ4_charAt_29 rfl rfl ?_
  refine v_if_ne 42 dJ4_charAt_30 (by decide) (fun c25 => ?_) (fun c25 => ?_)
  · replace hf := hf.1 c25
    refine v_qload_n (r := (some a16)) (i := 3) dJ4_charAt_42 rfl rfl ?_
    refine v_iload_n (i := 1) dJ4_charAt_43 rfl rfl ?_
    exact hf.elim
  · replace hf := hf.2 c25
    refine v_qload_n (r := (some a16)) (i := 3) dJ4_charAt_33 rfl rfl ?_
    refine v_iload_n (i := 1) dJ4_charAt_34 rfl rfl ?_
    replace hf := aI_e hf
    obtain ⟨w26, N27, f28, hh29, hi30, i31, ei31, hf⟩ := hf
    refine v_bald dJ4_charAt_35 hh29 hi30 ?_
    rw [← ei31]
    refine v_sipush (v := 255) dJ4_charAt_36 (by decide) ?_
    refine v_iand dJ4_charAt_39 ?_
    refine v_i2c (v := ((i31 &&& (255 : Int32)).toUInt32 % 65536).toInt32) dJ4_charAt_40 rfl ?_
    exact v_zret dJ4_charAt_41 rfl hf.1 ⟨_, rfl, hf.2⟩
abbrev Y_J5_charAt : Yt := (yJ5_charAt, some (.char), 4, 107, [])
def f_J5_charAt (G : Gt) (h : Hp) (t_0 : Option Nat) (i_1 : Int32) (K : Int32 → Hp → Prop) : Prop :=
rv h t_0 13 (f_J4_charAt G h t_0 i_1 (fun i5 h4 =>
(narrow .char (.int i5) = .int i5 ∧ K i5 h4)))
theorem m_J5_charAt {G : Gt} {h : Hp} {a0 : Nat} {i_1 : Int32} {K : Int32 → Hp → Prop} (hG : Base G) (hf : f_J5_charAt G h (some a0) i_1 K) : MM G Y_J5_charAt cJ5_charAt 2 0 0 [.ref a0, .int i_1] h (kI K) xN := by
  refine mm_of hG (by decide +kernel) rfl (ac_c rfl (ac_c rfl ac_nil)) (Nat.le_of_ble_eq_true rfl) (fun E _ _ => ?_)
  show V G E Y_J5_charAt cJ5_charAt 2 (QM G E (kI K) xN) h 0 0 0 [(0, .ref a0), (1, .int i_1)] []
  unfold f_J5_charAt at hf
  refine v_qload_n (r := (some a0)) (i := 0) dJ5_charAt_0 rfl rfl ?_
  refine v_iload_n (i := 1) dJ5_charAt_1 rfl rfl ?_
  replace hf := rv_e hf
  obtain ⟨w1, fs2, hh3, hf⟩ := hf
  refine V.addK0 ?_
  refine V.addN0 ?_
  refine v_callSU (mc := 0) (ms := 0) 1 dJ5_charAt_2 (m_J4_charAt hG hf) rfl hh3 rfl (lw_SU q2093 q2871 q272 q2094 q94 q2095) rfl (by decide +kernel) (by decide) rfl (cat_len (Nat.le_of_ble_eq_true rfl)) (kk_I fun i5 h4 hg => ?_) (fun _ _ _ hx => hx.elim)
  replace hf := hg
  clear hg
  exact v_zret dJ5_charAt_5 rfl hf.1 ⟨_, rfl, hf.2⟩
abbrev Y_X7_lettersOf : Yt := (yX7_lettersOf, some (.int), 5, 128, [])
def g_X7_lettersOf_0 (G : Gt) (E : Ev) (h : Hp) (k n : Nat) (a0 : Nat) (r_1 : Option Nat) (K : Int32 → Hp → Prop) : Prop :=
V G E Y_X7_lettersOf cX7_lettersOf 3 (QM G E (kI K) xN) h k n 2 [(0, .ref a0), (1, va_rf r_1), (2, .int (0 : Int32))] []
theorem s_X7_lettersOf_0 {G : Gt} {E : Ev} {h : Hp} {k0 n0 : Nat} {a0 : Nat} {r_1 : Option Nat} {K : Int32 → Hp → Prop} (hG : Base G) (hA : 0 ≤ k0) (hB : 0 ≤ n0) (hf : g_X7_lettersOf_0 G E h (k0 - 0) (n0 - 0) a0 r_1 K) : V G E Y_X7_lettersOf cX7_lettersOf 3 (QM G E (kI K) xN) h k0 n0 0 [(0, .ref a0), (1, va_rf r_1)] [] := by
  obtain ⟨k, hk9⟩ : ∃ z, z = k0 - 0 := ⟨_, rfl⟩
  obtain ⟨n, hn9⟩ : ∃ z, z = n0 - 0 := ⟨_, rfl⟩
  rw [← hk9, ← hn9] at hf
  refine V.weak (k' := k + 0) (n' := n + 0) ?_ (by omega) (by omega)
  unfold g_X7_lettersOf_0 at hf
  refine v_iconst (v := 0) dX7_lettersOf_0 (by decide) ?_
  refine v_istore_n (i := 2) (lv' := [(0, .ref a0), (1, va_rf r_1), (2, .int (0 : Int32))]) dX7_lettersOf_1 rfl (Nat.le_of_ble_eq_true rfl) rfl rfl ?_
  exact V.weak hf (by omega) (by omega)
def g_X7_lettersOf_2 (G : Gt) (E : Ev) (h : Hp) (k n : Nat) (a0 : Nat) (r_1 : Option Nat) (i_2 : Int32) (K : Int32 → Hp → Prop) : Prop :=
rv h r_1 14 (f_J6_length G h r_1 (fun i6 h5 =>
((i6 ≤ i_2 → K i_2 h5) ∧
(¬ (i6 ≤ i_2) → gI h5 (some a0) 7 0 fun i8 =>
gR h5 (some a0) 7 1 fun r13 =>
gR h5 r13 0 5 fun r18 =>
rv h5 r18 13 (f_J5_length G h5 r18 (fun i29 h28 =>
((i29 ≤ i8 + i_2 → K i_2 h28) ∧
(¬ (i29 ≤ i8 + i_2) → gR h28 (some a0) 7 1 fun r31 =>
gR h28 r31 0 5 fun r36 =>
gI h28 (some a0) 7 0 fun i42 =>
rv h28 r36 13 (f_J5_charAt G h28 r36 (i42 + i_2) (fun i52 h51 =>
rv h51 r_1 14 (f_J6_charAt G h51 r_1 i_2 (fun i57 h56 =>
((¬ (i52 = i57) → K i_2 h56) ∧
(i52 = i57 → V G E Y_X7_lettersOf cX7_lettersOf 3 (QM G E (kI K) xN) h56 k n 2 [(0, .ref a0), (1, va_rf r_1), (2, .int (i_2 + (1 : Int32)))] []))))))))))))))
theorem s_X7_lettersOf_2 {G : Gt} {E : Ev} {h : Hp} {k0 n0 : Nat} {a0 : Nat} {r_1 : Option Nat} {i_2 : Int32} {K : Int32 → Hp → Prop} (hG : Base G) (hA : 0 ≤ k0) (hB : 0 ≤ n0) (hf : g_X7_lettersOf_2 G E h (k0 - 0) (n0 - 0) a0 r_1 i_2 K) : V G E Y_X7_lettersOf cX7_lettersOf 3 (QM G E (kI K) xN) h k0 n0 2 [(0, .ref a0), (1, va_rf r_1), (2, .int i_2)] [] := by
  obtain ⟨k, hk9⟩ : ∃ z, z = k0 - 0 := ⟨_, rfl⟩
  obtain ⟨n, hn9⟩ : ∃ z, z = n0 - 0 := ⟨_, rfl⟩
  rw [← hk9, ← hn9] at hf
  refine V.weak (k' := k + 0) (n' := n + 0) ?_ (by omega) (by omega)
  unfold g_X7_lettersOf_2 at hf
  refine v_iload_n (i := 2) dX7_lettersOf_2 rfl rfl ?_
  refine v_qload_n (r := r_1) (i := 1) dX7_lettersOf_3 rfl rfl ?_
  obtain ⟨a1, rfl⟩ := rv_s hf
  replace hf := rv_e hf
  obtain ⟨w2, fs3, hh4, hf⟩ := hf
  refine V.addK0 ?_
  refine V.addN0 ?_
  refine v_callV (mc := 0) (ms := 0) 0 dX7_lettersOf_4 (m_J6_length hG hf) rfl hh4 rfl (lw_V q2084 q2085 q2086 q96 q2087) rfl (by decide +kernel) (by decide) rfl (cat_len (Nat.le_of_ble_eq_true rfl)) (kk_I fun i6 h5 hg => ?_) (fun _ _ _ hx => hx.elim)
  replace hf := hg
  clear hg
  refine v_icmp_ge 59 dX7_lettersOf_7 (by decide) (fun c7 => ?_) (fun c7 => ?_)
  · replace hf := hf.1 c7
    refine v_iload_n (i := 2) dX7_lettersOf_59 rfl rfl ?_
    exact v_iret dX7_lettersOf_60 rfl ⟨_, rfl, hf⟩
  · replace hf := hf.2 c7
    refine v_aload_n (i := 0) dX7_lettersOf_10 rfl rfl ?_
    replace hf := gI_e hf
    obtain ⟨w9, fs10, i8, hh11, hk12, hf⟩ := hf
    refine v_getf (T := TX7) (ci := 7) 0 dX7_lettersOf_11 q2049 rfl in_X7 (Nat.le_of_ble_eq_true rfl) (Or.inl rfl) hh11 hk12 ?_
    refine v_iload_n (i := 2) dX7_lettersOf_14 rfl rfl ?_
    refine v_iadd dX7_lettersOf_15 ?_
    refine v_aload_n (i := 0) dX7_lettersOf_16 rfl rfl ?_
    replace hf := gR_e hf
    obtain ⟨w14, fs15, r13, hh16, hk17, hf⟩ := hf
    refine v_getf (T := TX7) (ci := 7) 1 dX7_lettersOf_17 q2050 rfl in_X7 (Nat.le_of_ble_eq_true rfl) (Or.inl rfl) hh16 hk17 ?_
    obtain ⟨a19, rfl⟩ := gR_s hf
    replace hf := gR_e hf
    obtain ⟨w20, fs21, r18, hh22, hk23, hf⟩ := hf
    refine v_getfN (T := TX0) (ci := 0) 5 dX7_lettersOf_20 q280 rfl in_X0 (Nat.le_of_ble_eq_true rfl) (Or.inl rfl) hh22 hk23 ?_
    obtain ⟨a24, rfl⟩ := rv_s hf
    replace hf := rv_e hf
    obtain ⟨w25, fs26, hh27, hf⟩ := hf
    refine V.addK0 ?_
    refine V.addN0 ?_
    refine v_callV (mc := 0) (ms := 0) 0 dX7_lettersOf_23 (m_J5_length hG hf) rfl hh27 rfl (lw_V q2088 q1972 q1973 q95 q1974) rfl (by decide +kernel) (by decide) rfl (cat_len (Nat.le_of_ble_eq_true rfl)) (kk_I fun i29 h28 hg => ?_) (fun _ _ _ hx => hx.elim)
    replace hf := hg
    clear hg
    refine v_icmp_ge 59 dX7_lettersOf_26 (by decide) (fun c30 => ?_) (fun c30 => ?_)
    · replace hf := hf.1 c30
      refine v_iload_n (i := 2) dX7_lettersOf_59 rfl rfl ?_
      exact v_iret dX7_lettersOf_60 rfl ⟨_, rfl, hf⟩
    · replace hf := hf.2 c30
      refine v_aload_n (i := 0) dX7_lettersOf_29 rfl rfl ?_
      replace hf := gR_e hf
      obtain ⟨w32, fs33, r31, hh34, hk35, hf⟩ := hf
      refine v_getf (T := TX7) (ci := 7) 1 dX7_lettersOf_30 q2050 rfl in_X7 (Nat.le_of_ble_eq_true rfl) (Or.inl rfl) hh34 hk35 ?_
      obtain ⟨a37, rfl⟩ := gR_s hf
      replace hf := gR_e hf
      obtain ⟨w38, fs39, r36, hh40, hk41, hf⟩ := hf
      refine v_getfN (T := TX0) (ci := 0) 5 dX7_lettersOf_33 q280 rfl in_X0 (Nat.le_of_ble_eq_true rfl) (Or.inl rfl) hh40 hk41 ?_
      refine v_aload_n (i := 0) dX7_lettersOf_36 rfl rfl ?_
      replace hf := gI_e hf
      obtain ⟨w43, fs44, i42, hh45, hk46, hf⟩ := hf
      refine v_getf (T := TX7) (ci := 7) 0 dX7_lettersOf_37 q2049 rfl in_X7 (Nat.le_of_ble_eq_true rfl) (Or.inl rfl) hh45 hk46 ?_
      refine v_iload_n (i := 2) dX7_lettersOf_40 rfl rfl ?_
      refine v_iadd dX7_lettersOf_41 ?_
      obtain ⟨a47, rfl⟩ := rv_s hf
      replace hf := rv_e hf
      obtain ⟨w48, fs49, hh50, hf⟩ := hf
      refine V.addK0 ?_
      refine V.addN0 ?_
      refine v_callV (mc := 0) (ms := 0) 1 dX7_lettersOf_42 (m_J5_charAt hG hf) rfl hh50 rfl (lw_V q2089 q2090 q2091 q95 q2092) rfl (by decide +kernel) (by decide) rfl (cat_len (Nat.le_of_ble_eq_true rfl)) (kk_I fun i52 h51 hg => ?_) (fun _ _ _ hx => hx.elim)
      replace hf := hg
      clear hg
      refine v_qload_n (r := (some a1)) (i := 1) dX7_lettersOf_45 rfl rfl ?_
      refine v_iload_n (i := 2) dX7_lettersOf_46 rfl rfl ?_
      replace hf := rv_e hf
      obtain ⟨w53, fs54, hh55, hf⟩ := hf
      refine V.addK0 ?_
      refine V.addN0 ?_
      refine v_callV (mc := 0) (ms := 0) 1 dX7_lettersOf_47 (m_J6_charAt hG hf) rfl hh55 rfl (lw_V q2099 q2100 q2101 q96 q2102) rfl (by decide +kernel) (by decide) rfl (cat_len (Nat.le_of_ble_eq_true rfl)) (kk_I fun i57 h56 hg => ?_) (fun _ _ _ hx => hx.elim)
      replace hf := hg
      clear hg
      refine v_icmp_ne 59 dX7_lettersOf_50 (by decide) (fun c58 => ?_) (fun c58 => ?_)
      · replace hf := hf.1 c58
        refine v_iload_n (i := 2) dX7_lettersOf_59 rfl rfl ?_
        exact v_iret dX7_lettersOf_60 rfl ⟨_, rfl, hf⟩
      · replace hf := hf.2 c58
        refine v_iinc (i := 2) (v := i_2 + (1 : Int32)) (lv' := [(0, .ref a0), (1, va_rf (some a1)), (2, .int (i_2 + (1 : Int32)))]) dX7_lettersOf_53 rfl rfl (Nat.le_of_ble_eq_true rfl) rfl rfl ?_
        refine v_goto 2 dX7_lettersOf_56 (by decide) ?_
        exact V.weak hf (by omega) (by omega)
theorem b_X7_lettersOf {G : Gt} {h : Hp} {mc ms : Nat} {a0 : Nat} {r_1 : Option Nat} {K : Int32 → Hp → Prop} (hG : Base G) (hf : ∀ E : Ev, V G E Y_X7_lettersOf cX7_lettersOf 3 (QM G E (kI K) xN) h mc ms 0 [(0, .ref a0), (1, va_rf r_1)] []) : MM G Y_X7_lettersOf cX7_lettersOf 3 mc ms [.ref a0, va_rf r_1] h (kI K) xN := mm_of hG (by decide +kernel) rfl (ac_c rfl (ac_c (rf_cat _) ac_nil)) (Nat.le_of_ble_eq_true rfl) (fun E _ _ => hf E)
abbrev Y_X7_word : Yt := (yX7_word, some (.object "java/lang/String"), 6, 150, [])
def g_X7_word_0 (G : Gt) (E : Ev) (h : Hp) (k n : Nat) (a0 : Nat) (r_1 : Option Nat) (K : Option Nat → Hp → Prop) (X : Nat → Nat → Hp → Prop) : Prop :=
aL h r_1 fun i6 =>
V G E Y_X7_word cX7_word 8 (QM G E (kR K) X) h k n 11 [(0, .ref a0), (2, .int (0 : Int32)), (3, va_rf r_1), (4, .int i6), (5, .int (0 : Int32))] []
theorem s_X7_word_0 {G : Gt} {E : Ev} {h : Hp} {k0 n0 : Nat} {a0 : Nat} {r_1 : Option Nat} {K : Option Nat → Hp → Prop} {X : Nat → Nat → Hp → Prop} (hG : Base G) (hA : 0 ≤ k0) (hB : 0 ≤ n0) (hf : g_X7_word_0 G E h (k0 - 0) (n0 - 0) a0 r_1 K X) : V G E Y_X7_word cX7_word 8 (QM G E (kR K) X) h k0 n0 0 [(0, .ref a0), (1, va_rf r_1)] [] := by
  obtain ⟨k, hk9⟩ : ∃ z, z = k0 - 0 := ⟨_, rfl⟩
  obtain ⟨n, hn9⟩ : ∃ z, z = n0 - 0 := ⟨_, rfl⟩
  rw [← hk9, ← hn9] at hf
  refine V.weak (k' := k + 0) (n' := n + 0) ?_ (by omega) (by omega)
  unfold g_X7_word_0 at hf
  refine v_iconst (v := 0) dX7_word_0 (by decide) ?_
  refine v_istore_n (i := 2) (lv' := [(0, .ref a0), (1, va_rf r_1), (2, .int (0 : Int32))]) dX7_word_1 rfl (Nat.le_of_ble_eq_true rfl) rfl rfl ?_
  refine v_qload_n (r := r_1) (i := 1) dX7_word_2 rfl rfl ?_
  refine v_qstore_n (i := 3) (r := r_1) (lv' := [(0, .ref a0), (1, va_rf r_1), (2, .int (0 : Int32)), (3, va_rf r_1)]) dX7_word_3 rfl (Nat.le_of_ble_eq_true rfl) rfl rfl ?_
  refine v_qload_n (r := r_1) (i := 3) dX7_word_4 rfl rfl ?_
  obtain ⟨a1, rfl⟩ := aL_s hf
  replace hf := aL_e hf
  obtain ⟨w2, t3, x4, hh5, i6, ei6, hf⟩ := hf
  refine v_alen dX7_word_5 hh5 ei6.symm ?_
  refine v_istore (i := 4) (lv' := [(0, .ref a0), (1, va_rf (some a1)), (2, .int (0 : Int32)), (3, va_rf (some a1)), (4, .int i6)]) dX7_word_6 (Nat.le_of_ble_eq_true rfl) rfl rfl ?_
  refine v_iconst (v := 0) dX7_word_8 (by decide) ?_
  refine v_istore (i := 5) (lv' := [(0, .ref a0), (1, va_rf (some a1)), (2, .int (0 : Int32)), (3, va_rf (some a1)), (4, .int i6), (5, .int (0 : Int32))]) dX7_word_9 (Nat.le_of_ble_eq_true rfl) rfl rfl ?_
  refine V.lp (lv' := [(0, .ref a0), (2, .int (0 : Int32)), (3, va_rf (some a1)), (4, .int i6), (5, .int (0 : Int32))]) [0, 2, 3, 4, 5] rfl ?_
  exact V.weak hf (by omega) (by omega)
def g_X7_word_11 (G : Gt) (E : Ev) (h : Hp) (k n : Nat) (a0 : Nat) (i_2 : Int32) (r_3 : Option Nat) (i_4 : Int32) (i_5 : Int32) (K : Option Nat → Hp → Prop) (X : Nat → Nat → Hp → Prop) : Prop :=
((i_4 ≤ i_5 → nO h 8 [.null, .null, .null, .null, .null, .int 0, .int 0] fun a2 h3 =>
gI h3 (some a0) 7 0 fun i4 =>
f_X8_init G h3 (some a2) (i4 + i_2) (fun h9 =>
tw h9 (some a2) 8 (fun q9 => X 8 q9 h9))) ∧
(¬ (i_4 ≤ i_5) → aQ h r_3 i_5 fun r20 =>
rv h (some a0) 7 (dI G Y_X7_lettersOf cX7_lettersOf 3 [va_rf (some a0), va_rf r20] h k n (fun i25 h24 k28 n29 =>
rv h24 r20 14 (f_J6_length G h24 r20 (fun i35 h34 =>
((¬ (i25 = i35) → f_J10_max G h34 i_2 i25 (fun i38 h37 =>
V G E Y_X7_word cX7_word 8 (QM G E (kR K) X) h37 k28 n29 11 [(0, .ref a0), (2, .int i38), (3, va_rf r_3), (4, .int i_4), (5, .int (i_5 + (1 : Int32)))] [])) ∧
(i25 = i35 → gI h34 (some a0) 7 0 fun i39 =>
pF h34 (some a0) 7 0 (.int (i39 + i25)) fun h46 =>
K r20 h46))))) xN)))
theorem s_X7_word_11 {G : Gt} {E : Ev} {h : Hp} {k0 n0 : Nat} {a0 : Nat} {i_2 : Int32} {r_3 : Option Nat} {i_4 : Int32} {i_5 : Int32} {K : Option Nat → Hp → Prop} {X : Nat → Nat → Hp → Prop} (hG : Base G) (hA : 1 ≤ k0) (hB : 7 ≤ n0) (hf : g_X7_word_11 G E h (k0 - 1) (n0 - 7) a0 i_2 r_3 i_4 i_5 K X) : V G E Y_X7_word cX7_word 8 (QM G E (kR K) X) h k0 n0 11 [(0, .ref a0), (2, .int i_2), (3, va_rf r_3), (4, .int i_4), (5, .int i_5)] [] := by
  obtain ⟨k, hk9⟩ : ∃ z, z = k0 - 1 := ⟨_, rfl⟩
  obtain ⟨n, hn9⟩ : ∃ z, z = n0 - 7 := ⟨_, rfl⟩
  rw [← hk9, ← hn9] at hf
  refine V.weak (k' := k + 1) (n' := n + 7) ?_ (by omega) (by omega)
  unfold g_X7_word_11 at hf
  refine v_iload (i := 5) dX7_word_11 rfl ?_
  refine v_iload (i := 4) dX7_word_13 rfl ?_
  refine v_icmp_ge 69 dX7_word_15 (by decide) (fun c1 => ?_) (fun c1 => ?_)
  · replace hf := hf.1 c1
    refine v_new (N := 7) (fs := [.null, .null, .null, .null, .null, .int 0, .int 0]) (ci := 8) dX7_word_69 q2111 q2112 q140 rfl in_X8 tyX8 tyX8_ok rfl (fun a2 ha2 => ?_)
    replace hf := hf a2 ha2
    obtain ⟨h3, eh3⟩ : ∃ z, z = hs h a2 (true, .inr (8, [.null, .null, .null, .null, .null, .int 0, .int 0])) := ⟨_, rfl⟩
    try rw [← eh3] at hf
    rw [← eh3]
    refine v_dup dX7_word_72 rfl ?_
    refine v_aload_n (i := 0) dX7_word_73 rfl rfl ?_
    replace hf := gI_e hf
    obtain ⟨w5, fs6, i4, hh7, hk8, hf⟩ := hf
    refine v_getf (T := TX7) (ci := 7) 0 dX7_word_74 q2049 rfl in_X7 (Nat.le_of_ble_eq_true rfl) (Or.inl rfl) hh7 hk8 ?_
    refine v_iload_n (i := 2) dX7_word_77 rfl rfl ?_
    refine v_iadd dX7_word_78 ?_
    refine V.addK0 ?_
    refine V.addN0 ?_
    refine v_callI (mc := 0) (ms := 0) 1 dX7_word_79 (m_X8_init hG hf) rfl (lw_meth q2122) rfl q140 q2120 q2121 rfl rfl (by decide +kernel) (by decide) rfl (cat_len (Nat.le_of_ble_eq_true rfl)) (kk_V fun h9 hg => ?_) (fun _ _ _ hx => hx.elim)
    replace hf := hg
    clear hg
    replace hf := tw_e hf
    obtain ⟨fs10, hh11, hf⟩ := hf
    refine v_athrow dX7_word_82 hh11 rfl ?_
    exact vx_leave (by decide) hf
  · replace hf := hf.2 c1
    refine v_qload_n (r := r_3) (i := 3) dX7_word_18 rfl rfl ?_
    refine v_iload (i := 5) dX7_word_19 rfl ?_
    obtain ⟨a12, rfl⟩ := aQ_s hf
    replace hf := aQ_e hf
    obtain ⟨w13, t14, N15, f16, hh17, ht18, hi19, r20, er20, hf⟩ := hf
    refine v_aald dX7_word_21 ht18 hh17 hi19 ?_
    rw [← er20]
    refine v_qstore (i := 6) (r := r20) (lv' := [(0, .ref a0), (2, .int i_2), (3, va_rf (some a12)), (4, .int i_4), (5, .int i_5), (6, va_rf r20)]) dX7_word_22 (Nat.le_of_ble_eq_true rfl) rfl rfl ?_
    refine v_aload_n (i := 0) dX7_word_24 rfl rfl ?_
    refine v_qload (r := r20) (i := 6) dX7_word_25 rfl ?_
    replace hf := rv_e hf
    obtain ⟨w21, fs22, hh23, hf⟩ := hf
    obtain ⟨mc26, ms27, hkmc26, hnms27, hM⟩ := hf
    refine V.weak (k' := ((k - mc26) + 0) + mc26) (n' := ((n - ms27) + 0) + ms27) ?_ (by omega) (by omega)
    refine v_callV 1 dX7_word_27 hM rfl hh23 rfl (lw_V q2080 q2082 qs37 q139 q2083) rfl (by decide +kernel) (by decide) rfl (cat_len (Nat.le_of_ble_eq_true rfl)) (kk_I fun i25 h24 hg => ?_) (fun _ _ _ hx => hx.elim)
    have hf := hg
    clear hg
    refine v_istore (i := 7) (lv' := [(0, .ref a0), (2, .int i_2), (3, va_rf (some a12)), (4, .int i_4), (5, .int i_5), (6, va_rf r20), (7, .int i25)]) dX7_word_30 (Nat.le_of_ble_eq_true rfl) rfl rfl ?_
    refine v_iload (i := 7) dX7_word_32 rfl ?_
    refine v_qload (r := r20) (i := 6) dX7_word_34 rfl ?_
    obtain ⟨a30, rfl⟩ := rv_s hf
    replace hf := rv_e hf
    obtain ⟨w31, fs32, hh33, hf⟩ := hf
    refine V.addK0 ?_
    refine V.addN0 ?_
    refine v_callV (mc := 0) (ms := 0) 0 dX7_word_36 (m_J6_length hG hf) rfl hh33 rfl (lw_V q2084 q2085 q2086 q96 q2087) rfl (by decide +kernel) (by decide) rfl (cat_len (Nat.le_of_ble_eq_true rfl)) (kk_I fun i35 h34 hg => ?_) (fun _ _ _ hx => hx.elim)
    replace hf := hg
    clear hg
    refine v_icmp_ne 56 dX7_word_39 (by decide) (fun c36 => ?_) (fun c36 => ?_)
    · replace hf := hf.1 c36
      refine v_iload_n (i := 2) dX7_word_56 rfl rfl ?_
      refine v_iload (i := 7) dX7_word_57 rfl ?_
      refine V.addK0 ?_
      refine V.addN0 ?_
      refine v_callS (mc := 0) (ms := 0) 2 dX7_word_59 (m_J10_max hG hf) rfl (lw_S q2110 q444 q102 q445) rfl (by decide +kernel) (by decide) rfl (cat_len (Nat.le_of_ble_eq_true rfl)) (kk_I fun i38 h37 hg => ?_) (fun _ _ _ hx => hx.elim)
      replace hf := hg
      clear hg
      refine v_istore_n (i := 2) (lv' := [(0, .ref a0), (2, .int i38), (3, va_rf (some a12)), (4, .int i_4), (5, .int i_5), (6, va_rf (some a30)), (7, .int i25)]) dX7_word_62 rfl (Nat.le_of_ble_eq_true rfl) rfl rfl ?_
      refine v_iinc (i := 5) (v := i_5 + (1 : Int32)) (lv' := [(0, .ref a0), (2, .int i38), (3, va_rf (some a12)), (4, .int i_4), (5, .int (i_5 + (1 : Int32))), (6, va_rf (some a30)), (7, .int i25)]) dX7_word_63 rfl rfl (Nat.le_of_ble_eq_true rfl) rfl rfl ?_
      refine v_goto 11 dX7_word_66 (by decide) ?_
      refine V.lp (lv' := [(0, .ref a0), (2, .int i38), (3, va_rf (some a12)), (4, .int i_4), (5, .int (i_5 + (1 : Int32)))]) [0, 1, 2, 3, 4] rfl ?_
      exact V.weak hf (by omega) (by omega)
    · replace hf := hf.2 c36
      refine v_aload_n (i := 0) dX7_word_42 rfl rfl ?_
      refine v_dup dX7_word_43 rfl ?_
      replace hf := gI_e hf
      obtain ⟨w40, fs41, i39, hh42, hk43, hf⟩ := hf
      refine v_getf (T := TX7) (ci := 7) 0 dX7_word_44 q2049 rfl in_X7 (Nat.le_of_ble_eq_true rfl) (Or.inl rfl) hh42 hk43 ?_
      refine v_iload (i := 7) dX7_word_47 rfl ?_
      refine v_iadd dX7_word_49 ?_
      replace hf := pF_e hf
      obtain ⟨fs44, hh45, hf⟩ := hf
      refine v_putf (v := .int (i39 + i25)) (T := TX7) (ci := 7) (ty := .int) 0 dX7_word_50 q2049 rfl in_X7 tyX7 tyX7_ok nmX7 (Nat.le_of_ble_eq_true rfl) (Or.inl rfl) rfl (by decide +kernel) rfl rfl hh45 ?_
      obtain ⟨h46, eh46⟩ : ∃ z, z = hs h34 a0 (true, .inr (7, fs44.set 0 (.int (i39 + i25)))) := ⟨_, rfl⟩
      try rw [← eh46] at hf
      rw [← eh46]
      refine v_qload (r := (some a30)) (i := 6) dX7_word_53 rfl ?_
      exact v_qret (r := (some a30)) dX7_word_55 rfl (Or.inl ⟨_, rfl⟩) ⟨_, rfl, hf⟩
theorem b_X7_word {G : Gt} {h : Hp} {mc ms : Nat} {a0 : Nat} {r_1 : Option Nat} {K : Option Nat → Hp → Prop} {X : Nat → Nat → Hp → Prop} (hG : Base G) (hf : ∀ E : Ev, V G E Y_X7_word cX7_word 8 (QM G E (kR K) X) h mc ms 0 [(0, .ref a0), (1, va_rf r_1)] []) : MM G Y_X7_word cX7_word 8 mc ms [.ref a0, va_rf r_1] h (kR K) X := mm_of hG (by decide +kernel) rfl (ac_c rfl (ac_c (rf_cat _) ac_nil)) (Nat.le_of_ble_eq_true rfl) (fun E _ _ => hf E)
abbrev Y_J6_hashCode : Yt := (yJ6_hashCode, some (.int), 2, 60, [])
def f_J6_hashCode (G : Gt) (h : Hp) (t_0 : Option Nat) (K : Int32 → Hp → Prop) : Prop :=
gI h t_0 14 2 fun i1 =>
((¬ (i1 = 0) → K i1 h) ∧
(i1 = 0 → gI h t_0 14 3 fun i7 =>
((¬ (i7 = 0) → K i1 h) ∧
(i7 = 0 → rv h t_0 14 (f_J6_isLatin1 G h t_0 (fun i17 h16 =>
((i17 = 0 → gR h16 t_0 14 0 fun r19 =>
False) ∧
(¬ (i17 = 0) → gR h16 t_0 14 0 fun r24 =>
False))))))))
theorem m_J6_hashCode {G : Gt} {h : Hp} {a0 : Nat} {K : Int32 → Hp → Prop} (hG : Base G) (hf : f_J6_hashCode G h (some a0) K) : MM G Y_J6_hashCode cJ6_hashCode 2 0 0 [.ref a0] h (kI K) xN := by
  refine mm_of hG (by decide +kernel) rfl (ac_c rfl ac_nil) (Nat.le_of_ble_eq_true rfl) (fun E _ _ => ?_)
  show V G E Y_J6_hashCode cJ6_hashCode 2 (QM G E (kI K) xN) h 0 0 0 [(0, .ref a0)] []
  unfold f_J6_hashCode at hf
  refine v_qload_n (r := (some a0)) (i := 0) dJ6_hashCode_0 rfl rfl ?_
  replace hf := gI_e hf
  obtain ⟨w2, fs3, i1, hh4, hk5, hf⟩ := hf
  refine v_getf (T := TJ6) (ci := 14) 2 dJ6_hashCode_1 q2348 rfl in_J6 (Nat.le_of_ble_eq_true rfl) (Or.inl rfl) hh4 hk5 ?_
  refine v_istore_n (i := 1) (lv' := [(0, va_rf (some a0)), (1, .int i1)]) dJ6_hashCode_4 rfl (Nat.le_of_ble_eq_true rfl) rfl rfl ?_
  refine v_iload_n (i := 1) dJ6_hashCode_5 rfl rfl ?_
  refine v_if_ne 58 dJ6_hashCode_6 (by decide) (fun c6 => ?_) (fun c6 => ?_)
  · replace hf := hf.1 c6
    refine v_iload_n (i := 1) dJ6_hashCode_58 rfl rfl ?_
    exact v_iret dJ6_hashCode_59 rfl ⟨_, rfl, hf⟩
  · replace hf := hf.2 c6
    refine v_qload_n (r := (some a0)) (i := 0) dJ6_hashCode_9 rfl rfl ?_
    replace hf := gI_e hf
    obtain ⟨w8, fs9, i7, hh10, hk11, hf⟩ := hf
    refine v_getf (T := TJ6) (ci := 14) 3 dJ6_hashCode_10 q2349 rfl in_J6 (Nat.le_of_ble_eq_true rfl) (Or.inl rfl) hh10 hk11 ?_
    refine v_if_ne 58 dJ6_hashCode_13 (by decide) (fun c12 => ?_) (fun c12 => ?_)
    · replace hf := hf.1 c12
      refine v_iload_n (i := 1) dJ6_hashCode_58 rfl rfl ?_
      exact v_iret dJ6_hashCode_59 rfl ⟨_, rfl, hf⟩
    · replace hf := hf.2 c12
      refine v_qload_n (r := (some a0)) (i := 0) dJ6_hashCode_16 rfl rfl ?_
      replace hf := rv_e hf
      obtain ⟨w13, fs14, hh15, hf⟩ := hf
      refine V.addK0 ?_
      refine V.addN0 ?_
      refine v_callV (mc := 0) (ms := 0) 0 dJ6_hashCode_17 (m_J6_isLatin1 hG hf) rfl hh15 rfl (lw_V q1005 q1006 q1007 q96 q1008) rfl (by decide +kernel) (by decide) rfl (cat_len (Nat.le_of_ble_eq_true rfl)) (kk_I fun i17 h16 hg => ?_) (fun _ _ _ hx => hx.elim)
      replace hf := hg
      clear hg
      refine v_if_eq 33 dJ6_hashCode_20 (by decide) (fun c18 => ?_) (fun c18 => ?_)
      · replace hf := hf.1 c18
        refine v_qload_n (r := (some a0)) (i := 0) dJ6_hashCode_33 rfl rfl ?_
        replace hf := gR_e hf
        obtain ⟨w20, fs21, r19, hh22, hk23, hf⟩ := hf
        refine v_getf (T := TJ6) (ci := 14) 0 dJ6_hashCode_34 q2346 rfl in_J6 (Nat.le_of_ble_eq_true rfl) (Or.inl rfl) hh22 hk23 ?_
        exact hf.elim
      · replace hf := hf.2 c18
        refine v_qload_n (r := (some a0)) (i := 0) dJ6_hashCode_23 rfl rfl ?_
        replace hf := gR_e hf
        obtain ⟨w25, fs26, r24, hh27, hk28, hf⟩ := hf
        refine v_getf (T := TJ6) (ci := 14) 0 dJ6_hashCode_24 q2346 rfl in_J6 (Nat.le_of_ble_eq_true rfl) (Or.inl rfl) hh27 hk28 ?_
        exact hf.elim
abbrev Y_J29_equals : Yt := (yJ29_equals, some (.boolean), 1, 40, [])
def g_J29_equals_0 (G : Gt) (E : Ev) (h : Hp) (k n : Nat) (r_0 : Option Nat) (r_1 : Option Nat) (K : Int32 → Hp → Prop) : Prop :=
aL h r_0 fun i6 =>
aL h r_1 fun i12 =>
((¬ (i6 = i12) → K (0 : Int32) h) ∧
(i6 = i12 → V G E Y_J29_equals cJ29_equals 3 (QM G E (kI K) xN) h k n 9 [(0, va_rf r_0), (1, va_rf r_1), (2, .int (0 : Int32))] []))
theorem s_J29_equals_0 {G : Gt} {E : Ev} {h : Hp} {k0 n0 : Nat} {r_0 : Option Nat} {r_1 : Option Nat} {K : Int32 → Hp → Prop} (hG : Base G) (hA : 0 ≤ k0) (hB : 0 ≤ n0) (hf : g_J29_equals_0 G E h (k0 - 0) (n0 - 0) r_0 r_1 K) : V G E Y_J29_equals cJ29_equals 3 (QM G E (kI K) xN) h k0 n0 0 [(0, va_rf r_0), (1, va_rf r_1)] [] := by
  obtain ⟨k, hk9⟩ : ∃ z, z = k0 - 0 := ⟨_, rfl⟩
  obtain ⟨n, hn9⟩ : ∃ z, z = n0 - 0 := ⟨_, rfl⟩
  rw [← hk9, ← hn9] at hf
  refine V.weak (k' := k + 0) (n' := n + 0) ?_ (by omega) (by omega)
  unfold g_J29_equals_0 at hf
  refine v_qload_n (r := r_0) (i := 0) dJ29_equals_0 rfl rfl ?_
  obtain ⟨a1, rfl⟩ := aL_s hf
  replace hf := aL_e hf
  obtain ⟨w2, t3, x4, hh5, i6, ei6, hf⟩ := hf
  refine v_alen dJ29_equals_1 hh5 ei6.symm ?_
  refine v_qload_n (r := r_1) (i := 1) dJ29_equals_2 rfl rfl ?_
  obtain ⟨a7, rfl⟩ := aL_s hf
  replace hf := aL_e hf
  obtain ⟨w8, t9, x10, hh11, i12, ei12, hf⟩ := hf
  refine v_alen dJ29_equals_3 hh11 ei12.symm ?_
  refine v_icmp_ne 34 dJ29_equals_4 (by decide) (fun c13 => ?_) (fun c13 => ?_)
  · replace hf := hf.1 c13
    refine v_iconst (v := 0) dJ29_equals_34 (by decide) ?_
    exact v_zret dJ29_equals_35 rfl (by decide) ⟨_, rfl, hf⟩
  · replace hf := hf.2 c13
    refine v_iconst (v := 0) dJ29_equals_7 (by decide) ?_
    refine v_istore_n (i := 2) (lv' := [(0, va_rf (some a1)), (1, va_rf (some a7)), (2, .int (0 : Int32))]) dJ29_equals_8 rfl (Nat.le_of_ble_eq_true rfl) rfl rfl ?_
    exact V.weak hf (by omega) (by omega)
def g_J29_equals_9 (G : Gt) (E : Ev) (h : Hp) (k n : Nat) (r_0 : Option Nat) (r_1 : Option Nat) (i_2 : Int32) (K : Int32 → Hp → Prop) : Prop :=
aL h r_0 fun i6 =>
((i6 ≤ i_2 → K (1 : Int32) h) ∧
(¬ (i6 ≤ i_2) → aI h r_0 1 i_2 fun i13 =>
aI h r_1 1 i_2 fun i20 =>
((i13 = i20 → V G E Y_J29_equals cJ29_equals 3 (QM G E (kI K) xN) h k n 9 [(0, va_rf r_0), (1, va_rf r_1), (2, .int (i_2 + (1 : Int32)))] []) ∧
(¬ (i13 = i20) → K (0 : Int32) h))))
theorem s_J29_equals_9 {G : Gt} {E : Ev} {h : Hp} {k0 n0 : Nat} {r_0 : Option Nat} {r_1 : Option Nat} {i_2 : Int32} {K : Int32 → Hp → Prop} (hG : Base G) (hA : 0 ≤ k0) (hB : 0 ≤ n0) (hf : g_J29_equals_9 G E h (k0 - 0) (n0 - 0) r_0 r_1 i_2 K) : V G E Y_J29_equals cJ29_equals 3 (QM G E (kI K) xN) h k0 n0 9 [(0, va_rf r_0), (1, va_rf r_1), (2, .int i_2)] [] := by
  obtain ⟨k, hk9⟩ : ∃ z, z = k0 - 0 := ⟨_, rfl⟩
  obtain ⟨n, hn9⟩ : ∃ z, z = n0 - 0 := ⟨_, rfl⟩
  rw [← hk9, ← hn9] at hf
  refine V.weak (k' := k + 0) (n' := n + 0) ?_ (by omega) (by omega)
  unfold g_J29_equals_9 at hf
  refine v_iload_n (i := 2) dJ29_equals_9 rfl rfl ?_
  refine v_qload_n (r := r_0) (i := 0) dJ29_equals_10 rfl rfl ?_
  obtain ⟨a1, rfl⟩ := aL_s hf
  replace hf := aL_e hf
  obtain ⟨w2, t3, x4, hh5, i6, ei6, hf⟩ := hf
  refine v_alen dJ29_equals_11 hh5 ei6.symm ?_
  refine v_icmp_ge 32 dJ29_equals_12 (by decide) (fun c7 => ?_) (fun c7 => ?_)
  · replace hf := hf.1 c7
    refine v_iconst (v := 1) dJ29_equals_32 (by decide) ?_
    exact v_zret dJ29_equals_33 rfl (by decide) ⟨_, rfl, hf⟩
  · replace hf := hf.2 c7
    refine v_qload_n (r := (some a1)) (i := 0) dJ29_equals_15 rfl rfl ?_
    refine v_iload_n (i := 2) dJ29_equals_16 rfl rfl ?_
    replace hf := aI_e hf
    obtain ⟨w8, N9, f10, hh11, hi12, i13, ei13, hf⟩ := hf
    refine v_bald dJ29_equals_17 hh11 hi12 ?_
    rw [← ei13]
    refine v_qload_n (r := r_1) (i := 1) dJ29_equals_18 rfl rfl ?_
    refine v_iload_n (i := 2) dJ29_equals_19 rfl rfl ?_
    obtain ⟨a14, rfl⟩ := aI_s hf
    replace hf := aI_e hf
    obtain ⟨w15, N16, f17, hh18, hi19, i20, ei20, hf⟩ := hf
    refine v_bald dJ29_equals_20 hh18 hi19 ?_
    rw [← ei20]
    refine v_icmp_eq 26 dJ29_equals_21 (by decide) (fun c21 => ?_) (fun c21 => ?_)
    · replace hf := hf.1 c21
      refine v_iinc (i := 2) (v := i_2 + (1 : Int32)) (lv' := [(0, va_rf (some a1)), (1, va_rf (some a14)), (2, .int (i_2 + (1 : Int32)))]) dJ29_equals_26 rfl rfl (Nat.le_of_ble_eq_true rfl) rfl rfl ?_
      refine v_goto 9 dJ29_equals_29 (by decide) ?_
      exact V.weak hf (by omega) (by omega)
    · replace hf := hf.2 c21
      refine v_iconst (v := 0) dJ29_equals_24 (by decide) ?_
      exact v_zret dJ29_equals_25 rfl (by decide) ⟨_, rfl, hf⟩
theorem b_J29_equals {G : Gt} {h : Hp} {mc ms : Nat} {r_0 : Option Nat} {r_1 : Option Nat} {K : Int32 → Hp → Prop} (hG : Base G) (hf : ∀ E : Ev, V G E Y_J29_equals cJ29_equals 3 (QM G E (kI K) xN) h mc ms 0 [(0, va_rf r_0), (1, va_rf r_1)] []) : MM G Y_J29_equals cJ29_equals 3 mc ms [va_rf r_0, va_rf r_1] h (kI K) xN := mm_of hG (by decide +kernel) rfl (ac_c (rf_cat _) (ac_c (rf_cat _) ac_nil)) (Nat.le_of_ble_eq_true rfl) (fun E _ _ => hf E)
abbrev Y_J6_equals : Yt := (yJ6_equals, some (.boolean), 2, 62, [])
def f_J6_equals (G : Gt) (h : Hp) (k n : Nat) (t_0 : Option Nat) (r_1 : Option Nat) (K : Int32 → Hp → Prop) : Prop :=
((¬ (t_0 = r_1) → rv h r_1 14 ((((1 : Int32) = 0 → K (0 : Int32) h) ∧
(¬ ((1 : Int32) = 0) → (oc h r_1 14 ∧ (((1 : Int32) = 0 → gR h t_0 14 0 fun r8 =>
gR h r_1 14 0 fun r13 =>
dI G Y_J29_equals cJ29_equals 3 [va_rf r8, va_rf r13] h k n (fun i19 h18 k22 n23 =>
((i19 = 0 → K (0 : Int32) h18) ∧
(¬ (i19 = 0) → K (1 : Int32) h18))) xN) ∧
(¬ ((1 : Int32) = 0) → gI h t_0 14 1 fun i25 =>
gI h r_1 14 1 fun i30 =>
((¬ (i25 = i30) → K (0 : Int32) h) ∧
(i25 = i30 → gR h t_0 14 0 fun r36 =>
gR h r_1 14 0 fun r41 =>
dI G Y_J29_equals cJ29_equals 3 [va_rf r36, va_rf r41] h k n (fun i47 h46 k50 n51 =>
((i47 = 0 → K (0 : Int32) h46) ∧
(¬ (i47 = 0) → K (1 : Int32) h46))) xN))))))))) ∧
(t_0 = r_1 → K (1 : Int32) h))
theorem m_J6_equals {G : Gt} {h : Hp} {mc ms : Nat} {a0 : Nat} {r_1 : Option Nat} {K : Int32 → Hp → Prop} (hG : Base G) (hA : 0 ≤ mc) (hB : 0 ≤ ms) (hf : f_J6_equals G h (mc - 0) (ms - 0) (some a0) r_1 K) : MM G Y_J6_equals cJ6_equals 3 mc ms [.ref a0, va_rf r_1] h (kI K) xN := by
  refine mm_of hG (by decide +kernel) rfl (ac_c rfl (ac_c (rf_cat _) ac_nil)) (Nat.le_of_ble_eq_true rfl) (fun E _ _ => ?_)
  obtain ⟨k, hk9⟩ : ∃ z, z = mc - 0 := ⟨_, rfl⟩
  obtain ⟨n, hn9⟩ : ∃ z, z = ms - 0 := ⟨_, rfl⟩
  rw [← hk9, ← hn9] at hf
  refine V.weak (k' := k + 0) (n' := n + 0) ?_ (by omega) (by omega)
  show V G E Y_J6_equals cJ6_equals 3 (QM G E (kI K) xN) h (k + 0) (n + 0) 0 [(0, .ref a0), (1, va_rf r_1)] []
  unfold f_J6_equals at hf
  refine v_qload_n (r := (some a0)) (i := 0) dJ6_equals_0 rfl rfl ?_
  refine v_qload_n (r := r_1) (i := 1) dJ6_equals_1 rfl rfl ?_
  refine v_acmp_ne (x := (some a0)) (y := r_1) 7 dJ6_equals_2 (by decide) (fun c1 => ?_) (fun c1 => ?_)
  · replace hf := hf.1 c1
    refine v_qload_n (r := r_1) (i := 1) dJ6_equals_7 rfl rfl ?_
    obtain ⟨a2, rfl⟩ := rv_s hf
    replace hf := rv_e hf
    obtain ⟨w3, fs4, hh5, hf⟩ := hf
    refine v_instS dJ6_equals_8 q1194 hh5 rfl ?_
    refine v_if_eq 54 dJ6_equals_11 (by decide) (fun c6 => ?_) (fun c6 => ?_)
    · replace hf := hf.1 c6
      refine v_iconst (v := 0) dJ6_equals_54 (by decide) ?_
      exact v_zret dJ6_equals_55 rfl (by decide) ⟨_, rfl, hf⟩
    · replace hf := hf.2 c6
      refine v_qload_n (r := (some a2)) (i := 1) dJ6_equals_14 rfl rfl ?_
      obtain ⟨hoc, hf⟩ := hf
      refine v_castQS (r := (some a2)) dJ6_equals_15 q1194 hoc rfl ?_
      refine v_qstore_n (i := 2) (r := (some a2)) (lv' := [(0, va_rf (some a0)), (1, va_rf (some a2)), (2, va_rf (some a2))]) dJ6_equals_18 rfl (Nat.le_of_ble_eq_true rfl) rfl rfl ?_
      refine v_gets dJ6_equals_19 q1009 (List.mem_of_getElem? (i := 0) rfl) (Or.inl rfl) ?_
      refine v_if_eq 36 dJ6_equals_22 (by decide) (fun c7 => ?_) (fun c7 => ?_)
      · replace hf := hf.1 c7
        refine v_qload_n (r := (some a0)) (i := 0) dJ6_equals_36 rfl rfl ?_
        replace hf := gR_e hf
        obtain ⟨w9, fs10, r8, hh11, hk12, hf⟩ := hf
        refine v_getf (T := TJ6) (ci := 14) 0 dJ6_equals_37 q2346 rfl in_J6 (Nat.le_of_ble_eq_true rfl) (Or.inl rfl) hh11 hk12 ?_
        refine v_qload_n (r := (some a2)) (i := 2) dJ6_equals_40 rfl rfl ?_
        replace hf := gR_e hf
        obtain ⟨w14, fs15, r13, hh16, hk17, hf⟩ := hf
        refine v_getf (T := TJ6) (ci := 14) 0 dJ6_equals_41 q2346 rfl in_J6 (Nat.le_of_ble_eq_true rfl) (Or.inl rfl) hh16 hk17 ?_
        obtain ⟨mc20, ms21, hkmc20, hnms21, hM⟩ := hf
        refine V.weak (k' := ((k - mc20) + 0) + mc20) (n' := ((n - ms21) + 0) + ms21) ?_ (by omega) (by omega)
        refine v_callS 2 dJ6_equals_44 hM rfl (lw_S q1430 q1431 q125 q1432) rfl (by decide +kernel) (by decide) rfl (cat_len (Nat.le_of_ble_eq_true rfl)) (kk_I fun i19 h18 hg => ?_) (fun _ _ _ hx => hx.elim)
        have hf := hg
        clear hg
        refine v_if_eq 54 dJ6_equals_47 (by decide) (fun c24 => ?_) (fun c24 => ?_)
        · replace hf := hf.1 c24
          refine v_iconst (v := 0) dJ6_equals_54 (by decide) ?_
          exact v_zret dJ6_equals_55 rfl (by decide) ⟨_, rfl, hf⟩
        · replace hf := hf.2 c24
          refine v_iconst (v := 1) dJ6_equals_50 (by decide) ?_
          refine v_goto 55 dJ6_equals_51 (by decide) ?_
          exact v_zret dJ6_equals_55 rfl (by decide) ⟨_, rfl, hf⟩
      · replace hf := hf.2 c7
        refine v_qload_n (r := (some a0)) (i := 0) dJ6_equals_25 rfl rfl ?_
        replace hf := gI_e hf
        obtain ⟨w26, fs27, i25, hh28, hk29, hf⟩ := hf
        refine v_getf (T := TJ6) (ci := 14) 1 dJ6_equals_26 q2347 rfl in_J6 (Nat.le_of_ble_eq_true rfl) (Or.inl rfl) hh28 hk29 ?_
        refine v_qload_n (r := (some a2)) (i := 2) dJ6_equals_29 rfl rfl ?_
        replace hf := gI_e hf
        obtain ⟨w31, fs32, i30, hh33, hk34, hf⟩ := hf
        refine v_getf (T := TJ6) (ci := 14) 1 dJ6_equals_30 q2347 rfl in_J6 (Nat.le_of_ble_eq_true rfl) (Or.inl rfl) hh33 hk34 ?_
        refine v_icmp_ne 54 dJ6_equals_33 (by decide) (fun c35 => ?_) (fun c35 => ?_)
        · replace hf := hf.1 c35
          refine v_iconst (v := 0) dJ6_equals_54 (by decide) ?_
          exact v_zret dJ6_equals_55 rfl (by decide) ⟨_, rfl, hf⟩
        · replace hf := hf.2 c35
          refine v_qload_n (r := (some a0)) (i := 0) dJ6_equals_36 rfl rfl ?_
          replace hf := gR_e hf
          obtain ⟨w37, fs38, r36, hh39, hk40, hf⟩ := hf
          refine v_getf (T := TJ6) (ci := 14) 0 dJ6_equals_37 q2346 rfl in_J6 (Nat.le_of_ble_eq_true rfl) (Or.inl rfl) hh39 hk40 ?_
          refine v_qload_n (r := (some a2)) (i := 2) dJ6_equals_40 rfl rfl ?_
          replace hf := gR_e hf
          obtain ⟨w42, fs43, r41, hh44, hk45, hf⟩ := hf
          refine v_getf (T := TJ6) (ci := 14) 0 dJ6_equals_41 q2346 rfl in_J6 (Nat.le_of_ble_eq_true rfl) (Or.inl rfl) hh44 hk45 ?_
          obtain ⟨mc48, ms49, hkmc48, hnms49, hM⟩ := hf
          refine V.weak (k' := ((k - mc48) + 0) + mc48) (n' := ((n - ms49) + 0) + ms49) ?_ (by omega) (by omega)
          refine v_callS 2 dJ6_equals_44 hM rfl (lw_S q1430 q1431 q125 q1432) rfl (by decide +kernel) (by decide) rfl (cat_len (Nat.le_of_ble_eq_true rfl)) (kk_I fun i47 h46 hg => ?_) (fun _ _ _ hx => hx.elim)
          have hf := hg
          clear hg
          refine v_if_eq 54 dJ6_equals_47 (by decide) (fun c52 => ?_) (fun c52 => ?_)
          · replace hf := hf.1 c52
            refine v_iconst (v := 0) dJ6_equals_54 (by decide) ?_
            exact v_zret dJ6_equals_55 rfl (by decide) ⟨_, rfl, hf⟩
          · replace hf := hf.2 c52
            refine v_iconst (v := 1) dJ6_equals_50 (by decide) ?_
            refine v_goto 55 dJ6_equals_51 (by decide) ?_
            exact v_zret dJ6_equals_55 rfl (by decide) ⟨_, rfl, hf⟩
  · replace hf := hf.2 c1
    refine v_iconst (v := 1) dJ6_equals_5 (by decide) ?_
    exact v_zret dJ6_equals_6 rfl (by decide) ⟨_, rfl, hf⟩
abbrev Y_X7_here : Yt := (yX7_here, some (.int), 5, 128, [])
def f_X7_here (G : Gt) (h : Hp) (t_0 : Option Nat) (K : Int32 → Hp → Prop) : Prop :=
gI h t_0 7 0 fun i1 =>
gR h t_0 7 1 fun r6 =>
gR h r6 0 5 fun r11 =>
rv h r11 13 (f_J5_length G h r11 (fun i22 h21 =>
((i22 ≤ i1 → K (-1011 : Int32) h21) ∧
(¬ (i22 ≤ i1) → gR h21 t_0 7 1 fun r24 =>
gR h21 r24 0 5 fun r29 =>
gI h21 t_0 7 0 fun i35 =>
rv h21 r29 13 (f_J5_charAt G h21 r29 i35 (fun i45 h44 =>
K i45 h44))))))
theorem m_X7_here {G : Gt} {h : Hp} {a0 : Nat} {K : Int32 → Hp → Prop} (hG : Base G) (hf : f_X7_here G h (some a0) K) : MM G Y_X7_here cX7_here 1 0 0 [.ref a0] h (kI K) xN := by
  refine mm_of hG (by decide +kernel) rfl (ac_c rfl ac_nil) (Nat.le_of_ble_eq_true rfl) (fun E _ _ => ?_)
  show V G E Y_X7_here cX7_here 1 (QM G E (kI K) xN) h 0 0 0 [(0, .ref a0)] []
  unfold f_X7_here at hf
  refine v_qload_n (r := (some a0)) (i := 0) dX7_here_0 rfl rfl ?_
  replace hf := gI_e hf
  obtain ⟨w2, fs3, i1, hh4, hk5, hf⟩ := hf
  refine v_getf (T := TX7) (ci := 7) 0 dX7_here_1 q2049 rfl in_X7 (Nat.le_of_ble_eq_true rfl) (Or.inl rfl) hh4 hk5 ?_
  refine v_qload_n (r := (some a0)) (i := 0) dX7_here_4 rfl rfl ?_
  replace hf := gR_e hf
  obtain ⟨w7, fs8, r6, hh9, hk10, hf⟩ := hf
  refine v_getf (T := TX7) (ci := 7) 1 dX7_here_5 q2050 rfl in_X7 (Nat.le_of_ble_eq_true rfl) (Or.inl rfl) hh9 hk10 ?_
  obtain ⟨a12, rfl⟩ := gR_s hf
  replace hf := gR_e hf
  obtain ⟨w13, fs14, r11, hh15, hk16, hf⟩ := hf
  refine v_getfN (T := TX0) (ci := 0) 5 dX7_here_8 q280 rfl in_X0 (Nat.le_of_ble_eq_true rfl) (Or.inl rfl) hh15 hk16 ?_
  obtain ⟨a17, rfl⟩ := rv_s hf
  replace hf := rv_e hf
  obtain ⟨w18, fs19, hh20, hf⟩ := hf
  refine V.addK0 ?_
  refine V.addN0 ?_
  refine v_callV (mc := 0) (ms := 0) 0 dX7_here_11 (m_J5_length hG hf) rfl hh20 rfl (lw_V q2088 q1972 q1973 q95 q1974) rfl (by decide +kernel) (by decide) rfl (cat_len (Nat.le_of_ble_eq_true rfl)) (kk_I fun i22 h21 hg => ?_) (fun _ _ _ hx => hx.elim)
  replace hf := hg
  clear hg
  refine v_icmp_ge 34 dX7_here_14 (by decide) (fun c23 => ?_) (fun c23 => ?_)
  · replace hf := hf.1 c23
    refine v_sipush (v := -1011) dX7_here_34 (by decide) ?_
    exact v_iret dX7_here_37 rfl ⟨_, rfl, hf⟩
  · replace hf := hf.2 c23
    refine v_qload_n (r := (some a0)) (i := 0) dX7_here_17 rfl rfl ?_
    replace hf := gR_e hf
    obtain ⟨w25, fs26, r24, hh27, hk28, hf⟩ := hf
    refine v_getf (T := TX7) (ci := 7) 1 dX7_here_18 q2050 rfl in_X7 (Nat.le_of_ble_eq_true rfl) (Or.inl rfl) hh27 hk28 ?_
    obtain ⟨a30, rfl⟩ := gR_s hf
    replace hf := gR_e hf
    obtain ⟨w31, fs32, r29, hh33, hk34, hf⟩ := hf
    refine v_getfN (T := TX0) (ci := 0) 5 dX7_here_21 q280 rfl in_X0 (Nat.le_of_ble_eq_true rfl) (Or.inl rfl) hh33 hk34 ?_
    refine v_qload_n (r := (some a0)) (i := 0) dX7_here_24 rfl rfl ?_
    replace hf := gI_e hf
    obtain ⟨w36, fs37, i35, hh38, hk39, hf⟩ := hf
    refine v_getf (T := TX7) (ci := 7) 0 dX7_here_25 q2049 rfl in_X7 (Nat.le_of_ble_eq_true rfl) (Or.inl rfl) hh38 hk39 ?_
    obtain ⟨a40, rfl⟩ := rv_s hf
    replace hf := rv_e hf
    obtain ⟨w41, fs42, hh43, hf⟩ := hf
    refine V.addK0 ?_
    refine V.addN0 ?_
    refine v_callV (mc := 0) (ms := 0) 1 dX7_here_28 (m_J5_charAt hG hf) rfl hh43 rfl (lw_V q2089 q2090 q2091 q95 q2092) rfl (by decide +kernel) (by decide) rfl (cat_len (Nat.le_of_ble_eq_true rfl)) (kk_I fun i45 h44 hg => ?_) (fun _ _ _ hx => hx.elim)
    replace hf := hg
    clear hg
    refine v_goto 37 dX7_here_31 (by decide) ?_
    exact v_iret dX7_here_37 rfl ⟨_, rfl, hf⟩
abbrev Y_X7_needs : Yt := (yX7_needs, none, 4, 109, [])
def f_X7_needs (G : Gt) (h : Hp) (t_0 : Option Nat) (i_1 : Int32) (K : Hp → Prop) (X : Nat → Nat → Hp → Prop) : Prop :=
((¬ (i_1 = 0) → K h) ∧
(i_1 = 0 → nO h 8 [.null, .null, .null, .null, .null, .int 0, .int 0] fun a2 h3 =>
gI h3 t_0 7 0 fun i4 =>
f_X8_init G h3 (some a2) i4 (fun h9 =>
tw h9 (some a2) 8 (fun q9 => X 8 q9 h9))))
theorem m_X7_needs {G : Gt} {h : Hp} {a0 : Nat} {i_1 : Int32} {K : Hp → Prop} {X : Nat → Nat → Hp → Prop} (hG : Base G) (hf : f_X7_needs G h (some a0) i_1 K X) : MM G Y_X7_needs cX7_needs 2 1 7 [.ref a0, .int i_1] h (kV K) X := by
  refine mm_of hG (by decide +kernel) rfl (ac_c rfl (ac_c rfl ac_nil)) (Nat.le_of_ble_eq_true rfl) (fun E _ _ => ?_)
  show V G E Y_X7_needs cX7_needs 2 (QM G E (kV K) X) h 1 7 0 [(0, .ref a0), (1, .int i_1)] []
  unfold f_X7_needs at hf
  refine v_iload_n (i := 1) dX7_needs_0 rfl rfl ?_
  refine v_if_ne 16 dX7_needs_1 (by decide) (fun c1 => ?_) (fun c1 => ?_)
  · replace hf := hf.1 c1
    exact v_vret dX7_needs_16 rfl ⟨rfl, hf⟩
  · replace hf := hf.2 c1
    refine v_new (N := 7) (fs := [.null, .null, .null, .null, .null, .int 0, .int 0]) (ci := 8) dX7_needs_4 q2111 q2112 q140 rfl in_X8 tyX8 tyX8_ok rfl (fun a2 ha2 => ?_)
    replace hf := hf a2 ha2
    obtain ⟨h3, eh3⟩ : ∃ z, z = hs h a2 (true, .inr (8, [.null, .null, .null, .null, .null, .int 0, .int 0])) := ⟨_, rfl⟩
    try rw [← eh3] at hf
    rw [← eh3]
    refine v_dup dX7_needs_7 rfl ?_
    refine v_qload_n (r := (some a0)) (i := 0) dX7_needs_8 rfl rfl ?_
    replace hf := gI_e hf
    obtain ⟨w5, fs6, i4, hh7, hk8, hf⟩ := hf
    refine v_getf (T := TX7) (ci := 7) 0 dX7_needs_9 q2049 rfl in_X7 (Nat.le_of_ble_eq_true rfl) (Or.inl rfl) hh7 hk8 ?_
    refine V.addK0 ?_
    refine V.addN0 ?_
    refine v_callI (mc := 0) (ms := 0) 1 dX7_needs_12 (m_X8_init hG hf) rfl (lw_meth q2122) rfl q140 q2120 q2121 rfl rfl (by decide +kernel) (by decide) rfl (cat_len (Nat.le_of_ble_eq_true rfl)) (kk_V fun h9 hg => ?_) (fun _ _ _ hx => hx.elim)
    replace hf := hg
    clear hg
    replace hf := tw_e hf
    obtain ⟨fs10, hh11, hf⟩ := hf
    refine v_athrow dX7_needs_15 hh11 rfl ?_
    exact vx_leave (by decide) hf
abbrev Y_X7_number : Yt := (yX7_number, some (.int), 6, 148, [])
def g_X7_number_0 (G : Gt) (E : Ev) (h : Hp) (k n : Nat) (a0 : Nat) (i_1 : Int32) (K : Int32 → Hp → Prop) (X : Nat → Nat → Hp → Prop) : Prop :=
rv h (some a0) 7 (f_X7_here G h (some a0) (fun i5 h4 =>
f_X0_isIn G h4 i5 (48 : Int32) (57 : Int32) (fun i7 h6 =>
rv h6 (some a0) 7 (f_X7_needs G h6 (some a0) i7 (fun h11 =>
V G E Y_X7_number cX7_number 4 (QM G E (kI K) X) h11 k n 19 [(0, .ref a0), (1, .int i_1), (2, .int (0 : Int32)), (3, .int (0 : Int32))] []) X))))
theorem s_X7_number_0 {G : Gt} {E : Ev} {h : Hp} {k0 n0 : Nat} {a0 : Nat} {i_1 : Int32} {K : Int32 → Hp → Prop} {X : Nat → Nat → Hp → Prop} (hG : Base G) (hA : 1 ≤ k0) (hB : 7 ≤ n0) (hf : g_X7_number_0 G E h (k0 - 1) (n0 - 7) a0 i_1 K X) : V G E Y_X7_number cX7_number 4 (QM G E (kI K) X) h k0 n0 0 [(0, .ref a0), (1, .int i_1)] [] := by
  obtain ⟨k, hk9⟩ : ∃ z, z = k0 - 1 := ⟨_, rfl⟩
  obtain ⟨n, hn9⟩ : ∃ z, z = n0 - 7 := ⟨_, rfl⟩
  rw [← hk9, ← hn9] at hf
  refine V.weak (k' := k + 1) (n' := n + 7) ?_ (by omega) (by omega)
  unfold g_X7_number_0 at hf
  refine v_aload_n (i := 0) dX7_number_0 rfl rfl ?_
  refine v_aload_n (i := 0) dX7_number_1 rfl rfl ?_
  replace hf := rv_e hf
  obtain ⟨w1, fs2, hh3, hf⟩ := hf
  refine V.addK0 ?_
  refine V.addN0 ?_
  refine v_callV (mc := 0) (ms := 0) 0 dX7_number_2 (m_X7_here hG hf) rfl hh3 rfl (lw_V q2138 q2140 qs39 q139 q2141) rfl (by decide +kernel) (by decide) rfl (cat_len (Nat.le_of_ble_eq_true rfl)) (kk_I fun i5 h4 hg => ?_) (fun _ _ _ hx => hx.elim)
  replace hf := hg
  clear hg
  refine v_bipush (v := 48) dX7_number_5 (by decide) ?_
  refine v_bipush (v := 57) dX7_number_7 (by decide) ?_
  refine V.addK0 ?_
  refine V.addN0 ?_
  refine v_callSN (mc := 0) (ms := 0) 3 dX7_number_9 (m_X0_isIn hG hf) rfl (lw_meth q308) q88 q2142 q307 rfl (by decide +kernel) (by decide) rfl (cat_len (Nat.le_of_ble_eq_true rfl)) (kk_I fun i7 h6 hg => ?_) (fun _ _ _ hx => hx.elim)
  replace hf := hg
  clear hg
  replace hf := rv_e hf
  obtain ⟨w8, fs9, hh10, hf⟩ := hf
  refine v_callV (mc := 1) (ms := 7) 1 dX7_number_12 (m_X7_needs hG hf) rfl hh10 rfl (lw_V q2143 q2145 qs40 q139 q2146) rfl (by decide +kernel) (by decide) rfl (cat_len (Nat.le_of_ble_eq_true rfl)) (kk_V fun h11 hg => ?_) (fun _ _ _ hx => vx_leave (by decide) hx)
  replace hf := hg
  clear hg
  refine v_iconst (v := 0) dX7_number_15 (by decide) ?_
  refine v_istore_n (i := 2) (lv' := [(0, .ref a0), (1, .int i_1), (2, .int (0 : Int32))]) dX7_number_16 rfl (Nat.le_of_ble_eq_true rfl) rfl rfl ?_
  refine v_iconst (v := 0) dX7_number_17 (by decide) ?_
  refine v_istore_n (i := 3) (lv' := [(0, .ref a0), (1, .int i_1), (2, .int (0 : Int32)), (3, .int (0 : Int32))]) dX7_number_18 rfl (Nat.le_of_ble_eq_true rfl) rfl rfl ?_
  exact V.weak hf (by omega) (by omega)
def g_X7_number_19 (G : Gt) (E : Ev) (h : Hp) (k n : Nat) (a0 : Nat) (i_1 : Int32) (i_2 : Int32) (i_3 : Int32) (K : Int32 → Hp → Prop) (X : Nat → Nat → Hp → Prop) : Prop :=
((i_1 ≤ i_3 → K i_2 h) ∧
(¬ (i_1 ≤ i_3) → rv h (some a0) 7 (f_X7_here G h (some a0) (fun i6 h5 =>
f_X0_isIn G h5 i6 (48 : Int32) (57 : Int32) (fun i8 h7 =>
((i8 = 0 → K i_2 h7) ∧
(¬ (i8 = 0) → rv h7 (some a0) 7 (f_X7_here G h7 (some a0) (fun i14 h13 =>
gI h13 (some a0) 7 0 fun i15 =>
pF h13 (some a0) 7 0 (.int (i15 + (1 : Int32))) fun h22 =>
V G E Y_X7_number cX7_number 4 (QM G E (kI K) X) h22 k n 19 [(0, .ref a0), (1, .int i_1), (2, .int ((((10 : Int32) * i_2) + i14) - (48 : Int32))), (3, .int (i_3 + (1 : Int32)))] [])))))))))
theorem s_X7_number_19 {G : Gt} {E : Ev} {h : Hp} {k0 n0 : Nat} {a0 : Nat} {i_1 : Int32} {i_2 : Int32} {i_3 : Int32} {K : Int32 → Hp → Prop} {X : Nat → Nat → Hp → Prop} (hG : Base G) (hA : 0 ≤ k0) (hB : 0 ≤ n0) (hf : g_X7_number_19 G E h (k0 - 0) (n0 - 0) a0 i_1 i_2 i_3 K X) : V G E Y_X7_number cX7_number 4 (QM G E (kI K) X) h k0 n0 19 [(0, .ref a0), (1, .int i_1), (2, .int i_2), (3, .int i_3)] [] := by
  obtain ⟨k, hk9⟩ : ∃ z, z = k0 - 0 := ⟨_, rfl⟩
  obtain ⟨n, hn9⟩ : ∃ z, z = n0 - 0 := ⟨_, rfl⟩
  rw [← hk9, ← hn9] at hf
  refine V.weak (k' := k + 0) (n' := n + 0) ?_ (by omega) (by omega)
  unfold g_X7_number_19 at hf
  refine v_iload_n (i := 3) dX7_number_19 rfl rfl ?_
  refine v_iload_n (i := 1) dX7_number_20 rfl rfl ?_
  refine v_icmp_ge 67 dX7_number_21 (by decide) (fun c1 => ?_) (fun c1 => ?_)
  · replace hf := hf.1 c1
    refine v_iload_n (i := 2) dX7_number_67 rfl rfl ?_
    exact v_iret dX7_number_68 rfl ⟨_, rfl, hf⟩
  · replace hf := hf.2 c1
    refine v_aload_n (i := 0) dX7_number_24 rfl rfl ?_
    replace hf := rv_e hf
    obtain ⟨w2, fs3, hh4, hf⟩ := hf
    refine V.addK0 ?_
    refine V.addN0 ?_
    refine v_callV (mc := 0) (ms := 0) 0 dX7_number_25 (m_X7_here hG hf) rfl hh4 rfl (lw_V q2138 q2140 qs39 q139 q2141) rfl (by decide +kernel) (by decide) rfl (cat_len (Nat.le_of_ble_eq_true rfl)) (kk_I fun i6 h5 hg => ?_) (fun _ _ _ hx => hx.elim)
    replace hf := hg
    clear hg
    refine v_bipush (v := 48) dX7_number_28 (by decide) ?_
    refine v_bipush (v := 57) dX7_number_30 (by decide) ?_
    refine V.addK0 ?_
    refine V.addN0 ?_
    refine v_callSN (mc := 0) (ms := 0) 3 dX7_number_32 (m_X0_isIn hG hf) rfl (lw_meth q308) q88 q2142 q307 rfl (by decide +kernel) (by decide) rfl (cat_len (Nat.le_of_ble_eq_true rfl)) (kk_I fun i8 h7 hg => ?_) (fun _ _ _ hx => hx.elim)
    replace hf := hg
    clear hg
    refine v_if_eq 67 dX7_number_35 (by decide) (fun c9 => ?_) (fun c9 => ?_)
    · replace hf := hf.1 c9
      refine v_iload_n (i := 2) dX7_number_67 rfl rfl ?_
      exact v_iret dX7_number_68 rfl ⟨_, rfl, hf⟩
    · replace hf := hf.2 c9
      refine v_bipush (v := 10) dX7_number_38 (by decide) ?_
      refine v_iload_n (i := 2) dX7_number_40 rfl rfl ?_
      refine v_imul dX7_number_41 ?_
      refine v_aload_n (i := 0) dX7_number_42 rfl rfl ?_
      replace hf := rv_e hf
      obtain ⟨w10, fs11, hh12, hf⟩ := hf
      refine V.addK0 ?_
      refine V.addN0 ?_
      refine v_callV (mc := 0) (ms := 0) 0 dX7_number_43 (m_X7_here hG hf) rfl hh12 rfl (lw_V q2138 q2140 qs39 q139 q2141) rfl (by decide +kernel) (by decide) rfl (cat_len (Nat.le_of_ble_eq_true rfl)) (kk_I fun i14 h13 hg => ?_) (fun _ _ _ hx => hx.elim)
      replace hf := hg
      clear hg
      refine v_iadd dX7_number_46 ?_
      refine v_bipush (v := 48) dX7_number_47 (by decide) ?_
      refine v_isub dX7_number_49 ?_
      refine v_istore_n (i := 2) (lv' := [(0, .ref a0), (1, .int i_1), (2, .int ((((10 : Int32) * i_2) + i14) - (48 : Int32))), (3, .int i_3)]) dX7_number_50 rfl (Nat.le_of_ble_eq_true rfl) rfl rfl ?_
      refine v_aload_n (i := 0) dX7_number_51 rfl rfl ?_
      refine v_dup dX7_number_52 rfl ?_
      replace hf := gI_e hf
      obtain ⟨w16, fs17, i15, hh18, hk19, hf⟩ := hf
      refine v_getf (T := TX7) (ci := 7) 0 dX7_number_53 q2049 rfl in_X7 (Nat.le_of_ble_eq_true rfl) (Or.inl rfl) hh18 hk19 ?_
      refine v_iconst (v := 1) dX7_number_56 (by decide) ?_
      refine v_iadd dX7_number_57 ?_
      replace hf := pF_e hf
      obtain ⟨fs20, hh21, hf⟩ := hf
      refine v_putf (v := .int (i15 + (1 : Int32))) (T := TX7) (ci := 7) (ty := .int) 0 dX7_number_58 q2049 rfl in_X7 tyX7 tyX7_ok nmX7 (Nat.le_of_ble_eq_true rfl) (Or.inl rfl) rfl (by decide +kernel) rfl rfl hh21 ?_
      obtain ⟨h22, eh22⟩ : ∃ z, z = hs h13 a0 (true, .inr (7, fs20.set 0 (.int (i15 + (1 : Int32))))) := ⟨_, rfl⟩
      try rw [← eh22] at hf
      rw [← eh22]
      refine v_iinc (i := 3) (v := i_3 + (1 : Int32)) (lv' := [(0, .ref a0), (1, .int i_1), (2, .int ((((10 : Int32) * i_2) + i14) - (48 : Int32))), (3, .int (i_3 + (1 : Int32)))]) dX7_number_61 rfl rfl (Nat.le_of_ble_eq_true rfl) rfl rfl ?_
      refine v_goto 19 dX7_number_64 (by decide) ?_
      exact V.weak hf (by omega) (by omega)
theorem b_X7_number {G : Gt} {h : Hp} {mc ms : Nat} {a0 : Nat} {i_1 : Int32} {K : Int32 → Hp → Prop} {X : Nat → Nat → Hp → Prop} (hG : Base G) (hf : ∀ E : Ev, V G E Y_X7_number cX7_number 4 (QM G E (kI K) X) h mc ms 0 [(0, .ref a0), (1, .int i_1)] []) : MM G Y_X7_number cX7_number 4 mc ms [.ref a0, .int i_1] h (kI K) X := mm_of hG (by decide +kernel) rfl (ac_c rfl (ac_c rfl ac_nil)) (Nat.le_of_ble_eq_true rfl) (fun E _ _ => hf E)
abbrev Y_X9_init : Yt := (yX9_init, none, 1, 40, [])
def f_X9_init (G : Gt) (h : Hp) (t_0 : Option Nat) (r_1 : Option Nat) (r_2 : Option Nat) (K : Hp → Prop) : Prop :=
pF h t_0 9 0 (va_rf r_1) fun h3 =>
pF h3 t_0 9 1 (va_rf r_2) fun h6 =>
K h6
theorem m_X9_init {G : Gt} {h : Hp} {a0 : Nat} {r_1 : Option Nat} {r_2 : Option Nat} {K : Hp → Prop} (hG : Base G) (hf : f_X9_init G h (some a0) r_1 r_2 K) : MM G Y_X9_init cX9_init 3 0 0 [.ref a0, va_rf r_1, va_rf r_2] h (kV K) xN := by
  refine mm_of hG (by decide +kernel) rfl (ac_c rfl (ac_c (rf_cat _) (ac_c (rf_cat _) ac_nil))) (Nat.le_of_ble_eq_true rfl) (fun E _ _ => ?_)
  show V G E Y_X9_init cX9_init 3 (QM G E (kV K) xN) h 0 0 0 [(0, .ref a0), (1, va_rf r_1), (2, va_rf r_2)] []
  unfold f_X9_init at hf
  refine v_qload_n (r := (some a0)) (i := 0) dX9_init_0 rfl rfl ?_
  refine v_objInit dX9_init_1 q2150 q153 q154 (cat_len (Nat.le_of_ble_eq_true rfl)) (Nat.le_of_ble_eq_true rfl) (Nat.le_of_ble_eq_true rfl) ?_
  refine v_qload_n (r := (some a0)) (i := 0) dX9_init_4 rfl rfl ?_
  refine v_qload_n (r := r_1) (i := 1) dX9_init_5 rfl rfl ?_
  replace hf := pF_e hf
  obtain ⟨fs1, hh2, hf⟩ := hf
  refine v_putfF (v := va_rf r_1) (T := TX9) (ci := 9) (ty := .object "java/lang/String") 0 dX9_init_6 q2151 rfl in_X9 tyX9 tyX9_ok nmX9 (Nat.le_of_ble_eq_true rfl) (Or.inl rfl) rfl rfl rfl (by decide +kernel) (rf_nar _ _) (rf_fit _ _) hh2 ?_
  obtain ⟨h3, eh3⟩ : ∃ z, z = hs h a0 (true, .inr (9, fs1.set 0 (va_rf r_1))) := ⟨_, rfl⟩
  try rw [← eh3] at hf
  rw [← eh3]
  refine v_qload_n (r := (some a0)) (i := 0) dX9_init_9 rfl rfl ?_
  refine v_qload_n (r := r_2) (i := 2) dX9_init_10 rfl rfl ?_
  replace hf := pF_e hf
  obtain ⟨fs4, hh5, hf⟩ := hf
  refine v_putfF (v := va_rf r_2) (T := TX9) (ci := 9) (ty := .array (.int)) 1 dX9_init_11 q2152 rfl in_X9 tyX9 tyX9_ok nmX9 (Nat.le_of_ble_eq_true rfl) (Or.inl rfl) rfl rfl rfl (by decide +kernel) (rf_narA _ _) (rf_fitA _ _) hh5 ?_
  obtain ⟨h6, eh6⟩ : ∃ z, z = hs h3 a0 (true, .inr (9, fs4.set 1 (va_rf r_2))) := ⟨_, rfl⟩
  try rw [← eh6] at hf
  rw [← eh6]
  exact v_vret dX9_init_14 rfl ⟨rfl, hf⟩
abbrev Y_X7_takes : Yt := (yX7_takes, some (.boolean), 6, 148, [])
def f_X7_takes (G : Gt) (h : Hp) (t_0 : Option Nat) (i_1 : Int32) (K : Int32 → Hp → Prop) : Prop :=
rv h t_0 7 (f_X7_here G h t_0 (fun i5 h4 =>
((¬ (i5 = i_1) → gI h4 t_0 7 0 fun i7 =>
(((0 : Int32) = 0 → pF h4 t_0 7 0 (.int (i7 + (0 : Int32))) fun h15 =>
K (0 : Int32) h15) ∧
(¬ ((0 : Int32) = 0) → pF h4 t_0 7 0 (.int (i7 + (1 : Int32))) fun h18 =>
K (0 : Int32) h18))) ∧
(i5 = i_1 → gI h4 t_0 7 0 fun i19 =>
(((1 : Int32) = 0 → pF h4 t_0 7 0 (.int (i19 + (0 : Int32))) fun h27 =>
K (1 : Int32) h27) ∧
(¬ ((1 : Int32) = 0) → pF h4 t_0 7 0 (.int (i19 + (1 : Int32))) fun h30 =>
K (1 : Int32) h30))))))
theorem m_X7_takes {G : Gt} {h : Hp} {a0 : Nat} {i_1 : Int32} {K : Int32 → Hp → Prop} (hG : Base G) (hf : f_X7_takes G h (some a0) i_1 K) : MM G Y_X7_takes cX7_takes 3 0 0 [.ref a0, .int i_1] h (kI K) xN := by
  refine mm_of hG (by decide +kernel) rfl (ac_c rfl (ac_c rfl ac_nil)) (Nat.le_of_ble_eq_true rfl) (fun E _ _ => ?_)
  show V G E Y_X7_takes cX7_takes 3 (QM G E (kI K) xN) h 0 0 0 [(0, .ref a0), (1, .int i_1)] []
  unfold f_X7_takes at hf
  refine v_qload_n (r := (some a0)) (i := 0) dX7_takes_0 rfl rfl ?_
  replace hf := rv_e hf
  obtain ⟨w1, fs2, hh3, hf⟩ := hf
  refine V.addK0 ?_
  refine V.addN0 ?_
  refine v_callV (mc := 0) (ms := 0) 0 dX7_takes_1 (m_X7_here hG hf) rfl hh3 rfl (lw_V q2138 q2140 qs39 q139 q2141) rfl (by decide +kernel) (by decide) rfl (cat_len (Nat.le_of_ble_eq_true rfl)) (kk_I fun i5 h4 hg => ?_) (fun _ _ _ hx => hx.elim)
  replace hf := hg
  clear hg
  refine v_iload_n (i := 1) dX7_takes_4 rfl rfl ?_
  refine v_icmp_ne 12 dX7_takes_5 (by decide) (fun c6 => ?_) (fun c6 => ?_)
  · replace hf := hf.1 c6
    refine v_iconst (v := 0) dX7_takes_12 (by decide) ?_
    refine v_istore_n (i := 2) (lv' := [(0, va_rf (some a0)), (1, .int i_1), (2, .int (0 : Int32))]) dX7_takes_13 rfl (Nat.le_of_ble_eq_true rfl) rfl rfl ?_
    refine v_qload_n (r := (some a0)) (i := 0) dX7_takes_14 rfl rfl ?_
    refine v_dup dX7_takes_15 (rf_cat _) ?_
    replace hf := gI_e hf
    obtain ⟨w8, fs9, i7, hh10, hk11, hf⟩ := hf
    refine v_getf (T := TX7) (ci := 7) 0 dX7_takes_16 q2049 rfl in_X7 (Nat.le_of_ble_eq_true rfl) (Or.inl rfl) hh10 hk11 ?_
    refine v_iload_n (i := 2) dX7_takes_19 rfl rfl ?_
    refine v_if_eq 27 dX7_takes_20 (by decide) (fun c12 => ?_) (fun c12 => ?_)
    · replace hf := hf.1 c12
      refine v_iconst (v := 0) dX7_takes_27 (by decide) ?_
      refine v_iadd dX7_takes_28 ?_
      replace hf := pF_e hf
      obtain ⟨fs13, hh14, hf⟩ := hf
      refine v_putf (v := .int (i7 + (0 : Int32))) (T := TX7) (ci := 7) (ty := .int) 0 dX7_takes_29 q2049 rfl in_X7 tyX7 tyX7_ok nmX7 (Nat.le_of_ble_eq_true rfl) (Or.inl rfl) rfl (by decide +kernel) rfl rfl hh14 ?_
      obtain ⟨h15, eh15⟩ : ∃ z, z = hs h4 a0 (true, .inr (7, fs13.set 0 (.int (i7 + (0 : Int32))))) := ⟨_, rfl⟩
      try rw [← eh15] at hf
      rw [← eh15]
      refine v_iload_n (i := 2) dX7_takes_32 rfl rfl ?_
      exact v_zret dX7_takes_33 rfl (by decide) ⟨_, rfl, hf⟩
    · replace hf := hf.2 c12
      refine v_iconst (v := 1) dX7_takes_23 (by decide) ?_
      refine v_goto 28 dX7_takes_24 (by decide) ?_
      refine v_iadd dX7_takes_28 ?_
      replace hf := pF_e hf
      obtain ⟨fs16, hh17, hf⟩ := hf
      refine v_putf (v := .int (i7 + (1 : Int32))) (T := TX7) (ci := 7) (ty := .int) 0 dX7_takes_29 q2049 rfl in_X7 tyX7 tyX7_ok nmX7 (Nat.le_of_ble_eq_true rfl) (Or.inl rfl) rfl (by decide +kernel) rfl rfl hh17 ?_
      obtain ⟨h18, eh18⟩ : ∃ z, z = hs h4 a0 (true, .inr (7, fs16.set 0 (.int (i7 + (1 : Int32))))) := ⟨_, rfl⟩
      try rw [← eh18] at hf
      rw [← eh18]
      refine v_iload_n (i := 2) dX7_takes_32 rfl rfl ?_
      exact v_zret dX7_takes_33 rfl (by decide) ⟨_, rfl, hf⟩
  · replace hf := hf.2 c6
    refine v_iconst (v := 1) dX7_takes_8 (by decide) ?_
    refine v_goto 13 dX7_takes_9 (by decide) ?_
    refine v_istore_n (i := 2) (lv' := [(0, va_rf (some a0)), (1, .int i_1), (2, .int (1 : Int32))]) dX7_takes_13 rfl (Nat.le_of_ble_eq_true rfl) rfl rfl ?_
    refine v_qload_n (r := (some a0)) (i := 0) dX7_takes_14 rfl rfl ?_
    refine v_dup dX7_takes_15 (rf_cat _) ?_
    replace hf := gI_e hf
    obtain ⟨w20, fs21, i19, hh22, hk23, hf⟩ := hf
    refine v_getf (T := TX7) (ci := 7) 0 dX7_takes_16 q2049 rfl in_X7 (Nat.le_of_ble_eq_true rfl) (Or.inl rfl) hh22 hk23 ?_
    refine v_iload_n (i := 2) dX7_takes_19 rfl rfl ?_
    refine v_if_eq 27 dX7_takes_20 (by decide) (fun c24 => ?_) (fun c24 => ?_)
    · replace hf := hf.1 c24
      refine v_iconst (v := 0) dX7_takes_27 (by decide) ?_
      refine v_iadd dX7_takes_28 ?_
      replace hf := pF_e hf
      obtain ⟨fs25, hh26, hf⟩ := hf
      refine v_putf (v := .int (i19 + (0 : Int32))) (T := TX7) (ci := 7) (ty := .int) 0 dX7_takes_29 q2049 rfl in_X7 tyX7 tyX7_ok nmX7 (Nat.le_of_ble_eq_true rfl) (Or.inl rfl) rfl (by decide +kernel) rfl rfl hh26 ?_
      obtain ⟨h27, eh27⟩ : ∃ z, z = hs h4 a0 (true, .inr (7, fs25.set 0 (.int (i19 + (0 : Int32))))) := ⟨_, rfl⟩
      try rw [← eh27] at hf
      rw [← eh27]
      refine v_iload_n (i := 2) dX7_takes_32 rfl rfl ?_
      exact v_zret dX7_takes_33 rfl (by decide) ⟨_, rfl, hf⟩
    · replace hf := hf.2 c24
      refine v_iconst (v := 1) dX7_takes_23 (by decide) ?_
      refine v_goto 28 dX7_takes_24 (by decide) ?_
      refine v_iadd dX7_takes_28 ?_
      replace hf := pF_e hf
      obtain ⟨fs28, hh29, hf⟩ := hf
      refine v_putf (v := .int (i19 + (1 : Int32))) (T := TX7) (ci := 7) (ty := .int) 0 dX7_takes_29 q2049 rfl in_X7 tyX7 tyX7_ok nmX7 (Nat.le_of_ble_eq_true rfl) (Or.inl rfl) rfl (by decide +kernel) rfl rfl hh29 ?_
      obtain ⟨h30, eh30⟩ : ∃ z, z = hs h4 a0 (true, .inr (7, fs28.set 0 (.int (i19 + (1 : Int32))))) := ⟨_, rfl⟩
      try rw [← eh30] at hf
      rw [← eh30]
      refine v_iload_n (i := 2) dX7_takes_32 rfl rfl ?_
      exact v_zret dX7_takes_33 rfl (by decide) ⟨_, rfl, hf⟩
abbrev Y_X7_behindBlank : Yt := (yX7_behindBlank, some (.int), 7, 171, [])
def f_X7_behindBlank (G : Gt) (h : Hp) (k n : Nat) (t_0 : Option Nat) (i_1 : Int32) (K : Int32 → Hp → Prop) (X : Nat → Nat → Hp → Prop) : Prop :=
rv h t_0 7 (f_X7_takes G h t_0 (32 : Int32) (fun i5 h4 =>
rv h4 t_0 7 (f_X7_needs G h4 t_0 i5 (fun h9 =>
rv h9 t_0 7 (dI G Y_X7_number cX7_number 4 [va_rf t_0, .int i_1] h9 k n (fun i14 h13 k17 n18 =>
K i14 h13) X)) X)))
theorem m_X7_behindBlank {G : Gt} {h : Hp} {mc ms : Nat} {a0 : Nat} {i_1 : Int32} {K : Int32 → Hp → Prop} {X : Nat → Nat → Hp → Prop} (hG : Base G) (hA : 1 ≤ mc) (hB : 7 ≤ ms) (hf : f_X7_behindBlank G h (mc - 1) (ms - 7) (some a0) i_1 K X) : MM G Y_X7_behindBlank cX7_behindBlank 2 mc ms [.ref a0, .int i_1] h (kI K) X := by
  refine mm_of hG (by decide +kernel) rfl (ac_c rfl (ac_c rfl ac_nil)) (Nat.le_of_ble_eq_true rfl) (fun E _ _ => ?_)
  obtain ⟨k, hk9⟩ : ∃ z, z = mc - 1 := ⟨_, rfl⟩
  obtain ⟨n, hn9⟩ : ∃ z, z = ms - 7 := ⟨_, rfl⟩
  rw [← hk9, ← hn9] at hf
  refine V.weak (k' := k + 1) (n' := n + 7) ?_ (by omega) (by omega)
  show V G E Y_X7_behindBlank cX7_behindBlank 2 (QM G E (kI K) X) h (k + 1) (n + 7) 0 [(0, .ref a0), (1, .int i_1)] []
  unfold f_X7_behindBlank at hf
  refine v_qload_n (r := (some a0)) (i := 0) dX7_behindBlank_0 rfl rfl ?_
  refine v_qload_n (r := (some a0)) (i := 0) dX7_behindBlank_1 rfl rfl ?_
  refine v_bipush (v := 32) dX7_behindBlank_2 (by decide) ?_
  replace hf := rv_e hf
  obtain ⟨w1, fs2, hh3, hf⟩ := hf
  refine V.addK0 ?_
  refine V.addN0 ?_
  refine v_callV (mc := 0) (ms := 0) 1 dX7_behindBlank_4 (m_X7_takes hG hf) rfl hh3 rfl (lw_V q2162 q2164 qs42 q139 q2165) rfl (by decide +kernel) (by decide) rfl (cat_len (Nat.le_of_ble_eq_true rfl)) (kk_I fun i5 h4 hg => ?_) (fun _ _ _ hx => hx.elim)
  replace hf := hg
  clear hg
  replace hf := rv_e hf
  obtain ⟨w6, fs7, hh8, hf⟩ := hf
  refine v_callV (mc := 1) (ms := 7) 1 dX7_behindBlank_7 (m_X7_needs hG hf) rfl hh8 rfl (lw_V q2143 q2145 qs40 q139 q2146) rfl (by decide +kernel) (by decide) rfl (cat_len (Nat.le_of_ble_eq_true rfl)) (kk_V fun h9 hg => ?_) (fun _ _ _ hx => vx_leave (by decide) hx)
  replace hf := hg
  clear hg
  refine v_qload_n (r := (some a0)) (i := 0) dX7_behindBlank_10 rfl rfl ?_
  refine v_iload_n (i := 1) dX7_behindBlank_11 rfl rfl ?_
  replace hf := rv_e hf
  obtain ⟨w10, fs11, hh12, hf⟩ := hf
  obtain ⟨mc15, ms16, hkmc15, hnms16, hM⟩ := hf
  refine V.weak (k' := ((k - mc15) + 0) + mc15) (n' := ((n - ms16) + 0) + ms16) ?_ (by omega) (by omega)
  refine v_callV 1 dX7_behindBlank_12 hM rfl hh12 rfl (lw_V q2134 q2136 qs38 q139 q2137) rfl (by decide +kernel) (by decide) rfl (cat_len (Nat.le_of_ble_eq_true rfl)) (kk_I fun i14 h13 hg => ?_) (fun _ _ _ hx => vx_leave (by decide) hx)
  have hf := hg
  clear hg
  exact v_iret dX7_behindBlank_15 rfl ⟨_, rfl, hf⟩
abbrev Y_X7_lock : Yt := (yX7_lock, some (.int), 7, 171, [])
def f_X7_lock (G : Gt) (h : Hp) (k n : Nat) (t_0 : Option Nat) (K : Int32 → Hp → Prop) (X : Nat → Nat → Hp → Prop) : Prop :=
rv h t_0 7 (f_X7_takes G h t_0 (32 : Int32) (fun i5 h4 =>
rv h4 t_0 7 (f_X7_needs G h4 t_0 i5 (fun h9 =>
rv h9 t_0 7 (f_X7_takes G h9 t_0 (45 : Int32) (fun i14 h13 =>
((i14 = 0 → rv h13 t_0 7 (dI G Y_X7_number cX7_number 4 [va_rf t_0, .int (1 : Int32)] h13 k n (fun i20 h19 k23 n24 =>
K i20 h19) X)) ∧
(¬ (i14 = 0) → K (-1 : Int32) h13))))) X)))
theorem m_X7_lock {G : Gt} {h : Hp} {mc ms : Nat} {a0 : Nat} {K : Int32 → Hp → Prop} {X : Nat → Nat → Hp → Prop} (hG : Base G) (hA : 1 ≤ mc) (hB : 7 ≤ ms) (hf : f_X7_lock G h (mc - 1) (ms - 7) (some a0) K X) : MM G Y_X7_lock cX7_lock 1 mc ms [.ref a0] h (kI K) X := by
  refine mm_of hG (by decide +kernel) rfl (ac_c rfl ac_nil) (Nat.le_of_ble_eq_true rfl) (fun E _ _ => ?_)
  obtain ⟨k, hk9⟩ : ∃ z, z = mc - 1 := ⟨_, rfl⟩
  obtain ⟨n, hn9⟩ : ∃ z, z = ms - 7 := ⟨_, rfl⟩
  rw [← hk9, ← hn9] at hf
  refine V.weak (k' := k + 1) (n' := n + 7) ?_ (by omega) (by omega)
  show V G E Y_X7_lock cX7_lock 1 (QM G E (kI K) X) h (k + 1) (n + 7) 0 [(0, .ref a0)] []
  unfold f_X7_lock at hf
  refine v_qload_n (r := (some a0)) (i := 0) dX7_lock_0 rfl rfl ?_
  refine v_qload_n (r := (some a0)) (i := 0) dX7_lock_1 rfl rfl ?_
  refine v_bipush (v := 32) dX7_lock_2 (by decide) ?_
  replace hf := rv_e hf
  obtain ⟨w1, fs2, hh3, hf⟩ := hf
  refine V.addK0 ?_
  refine V.addN0 ?_
  refine v_callV (mc := 0) (ms := 0) 1 dX7_lock_4 (m_X7_takes hG hf) rfl hh3 rfl (lw_V q2162 q2164 qs42 q139 q2165) rfl (by decide +kernel) (by decide) rfl (cat_len (Nat.le_of_ble_eq_true rfl)) (kk_I fun i5 h4 hg => ?_) (fun _ _ _ hx => hx.elim)
  replace hf := hg
  clear hg
  replace hf := rv_e hf
  obtain ⟨w6, fs7, hh8, hf⟩ := hf
  refine v_callV (mc := 1) (ms := 7) 1 dX7_lock_7 (m_X7_needs hG hf) rfl hh8 rfl (lw_V q2143 q2145 qs40 q139 q2146) rfl (by decide +kernel) (by decide) rfl (cat_len (Nat.le_of_ble_eq_true rfl)) (kk_V fun h9 hg => ?_) (fun _ _ _ hx => vx_leave (by decide) hx)
  replace hf := hg
  clear hg
  refine v_qload_n (r := (some a0)) (i := 0) dX7_lock_10 rfl rfl ?_
  refine v_bipush (v := 45) dX7_lock_11 (by decide) ?_
  replace hf := rv_e hf
  obtain ⟨w10, fs11, hh12, hf⟩ := hf
  refine V.addK0 ?_
  refine V.addN0 ?_
  refine v_callV (mc := 0) (ms := 0) 1 dX7_lock_13 (m_X7_takes hG hf) rfl hh12 rfl (lw_V q2162 q2164 qs42 q139 q2165) rfl (by decide +kernel) (by decide) rfl (cat_len (Nat.le_of_ble_eq_true rfl)) (kk_I fun i14 h13 hg => ?_) (fun _ _ _ hx => hx.elim)
  replace hf := hg
  clear hg
  refine v_if_eq 23 dX7_lock_16 (by decide) (fun c15 => ?_) (fun c15 => ?_)
  · replace hf := hf.1 c15
    refine v_qload_n (r := (some a0)) (i := 0) dX7_lock_23 rfl rfl ?_
    refine v_iconst (v := 1) dX7_lock_24 (by decide) ?_
    replace hf := rv_e hf
    obtain ⟨w16, fs17, hh18, hf⟩ := hf
    obtain ⟨mc21, ms22, hkmc21, hnms22, hM⟩ := hf
    refine V.weak (k' := ((k - mc21) + 0) + mc21) (n' := ((n - ms22) + 0) + ms22) ?_ (by omega) (by omega)
    refine v_callV 1 dX7_lock_25 hM rfl hh18 rfl (lw_V q2134 q2136 qs38 q139 q2137) rfl (by decide +kernel) (by decide) rfl (cat_len (Nat.le_of_ble_eq_true rfl)) (kk_I fun i20 h19 hg => ?_) (fun _ _ _ hx => vx_leave (by decide) hx)
    have hf := hg
    clear hg
    exact v_iret dX7_lock_28 rfl ⟨_, rfl, hf⟩
  · replace hf := hf.2 c15
    refine v_iconst (v := -1) dX7_lock_19 (by decide) ?_
    refine v_goto 28 dX7_lock_20 (by decide) ?_
    exact v_iret dX7_lock_28 rfl ⟨_, rfl, hf⟩
abbrev Y_X7_command : Yt := (yX7_command, some (.object "ParityMaze$Command"), 8, 192, [])
def g_X7_command_0 (G : Gt) (E : Ev) (h : Hp) (k n : Nat) (a0 : Nat) (K : Option Nat → Hp → Prop) (X : Nat → Nat → Hp → Prop) : Prop :=
nA h 5 (8, .inr (.inr (.inr (.inr (fun _ => none))))) fun a1 h2 =>
sQ h2 (some a1) (0 : Int32) (some (g_k G 0)) fun h10 =>
sQ h10 (some a1) (1 : Int32) (some (g_k G 1)) fun h18 =>
sQ h18 (some a1) (2 : Int32) (some (g_k G 2)) fun h26 =>
sQ h26 (some a1) (3 : Int32) (some (g_k G 3)) fun h34 =>
sQ h34 (some a1) (4 : Int32) (some (g_k G 4)) fun h42 =>
sQ h42 (some a1) (5 : Int32) (some (g_k G 5)) fun h50 =>
sQ h50 (some a1) (6 : Int32) (some (g_k G 6)) fun h58 =>
sQ h58 (some a1) (7 : Int32) (some (g_k G 7)) fun h66 =>
rv h66 (some a0) 7 (dR G Y_X7_word cX7_word 8 [va_rf (some a0), .ref a1] h66 k n (fun r71 h70 k74 n75 =>
rv h70 r71 14 (f_J6_hashCode G h70 r71 (fun i81 h80 =>
((i81 = (3288481 : Int32) → rv h80 r71 14 (dI G Y_J6_equals cJ6_equals 3 [va_rf r71, .ref (g_k G 6)] h80 k74 n75 (fun i87 h86 k90 n91 =>
((i87 = 0 → V G E Y_X7_command cX7_command 9 (QM G E (kR K) X) h86 k90 n91 157 [(0, .ref a0), (1, va_rf r71), (3, .int (-1 : Int32))] []) ∧
(¬ (i87 = 0) → V G E Y_X7_command cX7_command 9 (QM G E (kR K) X) h86 k90 n91 157 [(0, .ref a0), (1, va_rf r71), (3, .int (2 : Int32))] []))) xN)) ∧
(i81 = (3411086 : Int32) → rv h80 r71 14 (dI G Y_J6_equals cJ6_equals 3 [va_rf r71, .ref (g_k G 4)] h80 k74 n75 (fun i97 h96 k100 n101 =>
((i97 = 0 → V G E Y_X7_command cX7_command 9 (QM G E (kR K) X) h96 k100 n101 157 [(0, .ref a0), (1, va_rf r71), (3, .int (-1 : Int32))] []) ∧
(¬ (i97 = 0) → V G E Y_X7_command cX7_command 9 (QM G E (kR K) X) h96 k100 n101 157 [(0, .ref a0), (1, va_rf r71), (3, .int (1 : Int32))] []))) xN)) ∧
(i81 = (95769138 : Int32) → rv h80 r71 14 (dI G Y_J6_equals cJ6_equals 3 [va_rf r71, .ref (g_k G 7)] h80 k74 n75 (fun i107 h106 k110 n111 =>
((i107 = 0 → V G E Y_X7_command cX7_command 9 (QM G E (kR K) X) h106 k110 n111 157 [(0, .ref a0), (1, va_rf r71), (3, .int (-1 : Int32))] []) ∧
(¬ (i107 = 0) → V G E Y_X7_command cX7_command 9 (QM G E (kR K) X) h106 k110 n111 157 [(0, .ref a0), (1, va_rf r71), (3, .int (3 : Int32))] []))) xN)) ∧
(i81 = (110124153 : Int32) → rv h80 r71 14 (dI G Y_J6_equals cJ6_equals 3 [va_rf r71, .ref (g_k G 2)] h80 k74 n75 (fun i117 h116 k120 n121 =>
((i117 = 0 → V G E Y_X7_command cX7_command 9 (QM G E (kR K) X) h116 k120 n121 157 [(0, .ref a0), (1, va_rf r71), (3, .int (-1 : Int32))] []) ∧
(¬ (i117 = 0) → V G E Y_X7_command cX7_command 9 (QM G E (kR K) X) h116 k120 n121 157 [(0, .ref a0), (1, va_rf r71), (3, .int (0 : Int32))] []))) xN)) ∧
(¬ i81 = (3288481 : Int32) → ¬ i81 = (3411086 : Int32) → ¬ i81 = (95769138 : Int32) → ¬ i81 = (110124153 : Int32) → V G E Y_X7_command cX7_command 9 (QM G E (kR K) X) h80 k74 n75 157 [(0, .ref a0), (1, va_rf r71), (3, .int (-1 : Int32))] []))))) X)
theorem s_X7_command_0 {G : Gt} {E : Ev} {h : Hp} {k0 n0 : Nat} {a0 : Nat} {K : Option Nat → Hp → Prop} {X : Nat → Nat → Hp → Prop} (hG : Base G) (hA : 1 ≤ k0) (hB : 8 ≤ n0) (hf : g_X7_command_0 G E h (k0 - 1) (n0 - 8) a0 K X) : V G E Y_X7_command cX7_command 9 (QM G E (kR K) X) h k0 n0 0 [(0, .ref a0)] [] := by
  obtain ⟨k, hk9⟩ : ∃ z, z = k0 - 1 := ⟨_, rfl⟩
  obtain ⟨n, hn9⟩ : ∃ z, z = n0 - 8 := ⟨_, rfl⟩
  rw [← hk9, ← hn9] at hf
  refine V.weak (k' := k + 1) (n' := n + 8) ?_ (by omega) (by omega)
  unfold g_X7_command_0 at hf
  refine v_aload_n (i := 0) dX7_command_0 rfl rfl ?_
  refine v_bipush (v := 8) dX7_command_1 (by decide) ?_
  refine v_newq (t := 5) (N := 8) dX7_command_3 (Nat.le_of_ble_eq_true rfl) rfl q2066 q2067 rfl (Nat.le_of_ble_eq_true rfl) (fun a1 ha1 => ?_)
  replace hf := hf a1 ha1
  obtain ⟨h2, eh2⟩ : ∃ z, z = hs h a1 (true, .inl (5, (8, .inr (.inr (.inr (.inr (fun _ => none))))))) := ⟨_, rfl⟩
  try rw [← eh2] at hf
  rw [← eh2]
  refine v_dup dX7_command_6 rfl ?_
  refine v_iconst (v := 0) dX7_command_7 (by decide) ?_
  refine v_ldcS dX7_command_8 (List.mem_of_getElem? (i := 1) rfl) ?_
  replace hf := sQ_e hf
  obtain ⟨t3, N4, f5, hh6, hD8, hi7, hy9, hf⟩ := hf
  refine v_sQ (y := (some (g_k G 0))) dX7_command_10 hD8 hh6 hi7 hy9 ?_
  obtain ⟨h10, eh10⟩ : ∃ z, z = hs h2 a1 (true, .inl (t3, N4, .inr (.inr (.inr (.inr (va_up f5 ((0 : Int32)).toNatClampNeg (some (g_k G 0)))))))) := ⟨_, rfl⟩
  try rw [← eh10] at hf
  rw [← eh10]
  refine v_dup dX7_command_11 rfl ?_
  refine v_iconst (v := 1) dX7_command_12 (by decide) ?_
  refine v_ldcS dX7_command_13 (List.mem_of_getElem? (i := 2) rfl) ?_
  replace hf := sQ_e hf
  obtain ⟨t11, N12, f13, hh14, hD16, hi15, hy17, hf⟩ := hf
  refine v_sQ (y := (some (g_k G 1))) dX7_command_15 hD16 hh14 hi15 hy17 ?_
  obtain ⟨h18, eh18⟩ : ∃ z, z = hs h10 a1 (true, .inl (t11, N12, .inr (.inr (.inr (.inr (va_up f13 ((1 : Int32)).toNatClampNeg (some (g_k G 1)))))))) := ⟨_, rfl⟩
  try rw [← eh18] at hf
  rw [← eh18]
  refine v_dup dX7_command_16 rfl ?_
  refine v_iconst (v := 2) dX7_command_17 (by decide) ?_
  refine v_ldcS dX7_command_18 (List.mem_of_getElem? (i := 3) rfl) ?_
  replace hf := sQ_e hf
  obtain ⟨t19, N20, f21, hh22, hD24, hi23, hy25, hf⟩ := hf
  refine v_sQ (y := (some (g_k G 2))) dX7_command_20 hD24 hh22 hi23 hy25 ?_
  obtain ⟨h26, eh26⟩ : ∃ z, z = hs h18 a1 (true, .inl (t19, N20, .inr (.inr (.inr (.inr (va_up f21 ((2 : Int32)).toNatClampNeg (some (g_k G 2)))))))) := ⟨_, rfl⟩
  try rw [← eh26] at hf
  rw [← eh26]
  refine v_dup dX7_command_21 rfl ?_
  refine v_iconst (v := 3) dX7_command_22 (by decide) ?_
  refine v_ldcS dX7_command_23 (List.mem_of_getElem? (i := 4) rfl) ?_
  replace hf := sQ_e hf
  obtain ⟨t27, N28, f29, hh30, hD32, hi31, hy33, hf⟩ := hf
  refine v_sQ (y := (some (g_k G 3))) dX7_command_25 hD32 hh30 hi31 hy33 ?_
  obtain ⟨h34, eh34⟩ : ∃ z, z = hs h26 a1 (true, .inl (t27, N28, .inr (.inr (.inr (.inr (va_up f29 ((3 : Int32)).toNatClampNeg (some (g_k G 3)))))))) := ⟨_, rfl⟩
  try rw [← eh34] at hf
  rw [← eh34]
  refine v_dup dX7_command_26 rfl ?_
  refine v_iconst (v := 4) dX7_command_27 (by decide) ?_
  refine v_ldcS dX7_command_28 (List.mem_of_getElem? (i := 5) rfl) ?_
  replace hf := sQ_e hf
  obtain ⟨t35, N36, f37, hh38, hD40, hi39, hy41, hf⟩ := hf
  refine v_sQ (y := (some (g_k G 4))) dX7_command_30 hD40 hh38 hi39 hy41 ?_
  obtain ⟨h42, eh42⟩ : ∃ z, z = hs h34 a1 (true, .inl (t35, N36, .inr (.inr (.inr (.inr (va_up f37 ((4 : Int32)).toNatClampNeg (some (g_k G 4)))))))) := ⟨_, rfl⟩
  try rw [← eh42] at hf
  rw [← eh42]
  refine v_dup dX7_command_31 rfl ?_
  refine v_iconst (v := 5) dX7_command_32 (by decide) ?_
  refine v_ldcS dX7_command_33 (List.mem_of_getElem? (i := 6) rfl) ?_
  replace hf := sQ_e hf
  obtain ⟨t43, N44, f45, hh46, hD48, hi47, hy49, hf⟩ := hf
  refine v_sQ (y := (some (g_k G 5))) dX7_command_35 hD48 hh46 hi47 hy49 ?_
  obtain ⟨h50, eh50⟩ : ∃ z, z = hs h42 a1 (true, .inl (t43, N44, .inr (.inr (.inr (.inr (va_up f45 ((5 : Int32)).toNatClampNeg (some (g_k G 5)))))))) := ⟨_, rfl⟩
  try rw [← eh50] at hf
  rw [← eh50]
  refine v_dup dX7_command_36 rfl ?_
  refine v_bipush (v := 6) dX7_command_37 (by decide) ?_
  refine v_ldcS dX7_command_39 (List.mem_of_getElem? (i := 7) rfl) ?_
  replace hf := sQ_e hf
  obtain ⟨t51, N52, f53, hh54, hD56, hi55, hy57, hf⟩ := hf
  refine v_sQ (y := (some (g_k G 6))) dX7_command_41 hD56 hh54 hi55 hy57 ?_
  obtain ⟨h58, eh58⟩ : ∃ z, z = hs h50 a1 (true, .inl (t51, N52, .inr (.inr (.inr (.inr (va_up f53 ((6 : Int32)).toNatClampNeg (some (g_k G 6)))))))) := ⟨_, rfl⟩
  try rw [← eh58] at hf
  rw [← eh58]
  refine v_dup dX7_command_42 rfl ?_
  refine v_bipush (v := 7) dX7_command_43 (by decide) ?_
  refine v_ldcS dX7_command_45 (List.mem_of_getElem? (i := 8) rfl) ?_
  replace hf := sQ_e hf
  obtain ⟨t59, N60, f61, hh62, hD64, hi63, hy65, hf⟩ := hf
  refine v_sQ (y := (some (g_k G 7))) dX7_command_47 hD64 hh62 hi63 hy65 ?_
  obtain ⟨h66, eh66⟩ : ∃ z, z = hs h58 a1 (true, .inl (t59, N60, .inr (.inr (.inr (.inr (va_up f61 ((7 : Int32)).toNatClampNeg (some (g_k G 7)))))))) := ⟨_, rfl⟩
  try rw [← eh66] at hf
  rw [← eh66]
  replace hf := rv_e hf
  obtain ⟨w67, fs68, hh69, hf⟩ := hf
  obtain ⟨mc72, ms73, hkmc72, hnms73, hM⟩ := hf
  refine V.weak (k' := ((k - mc72) + 0) + mc72) (n' := ((n - ms73) + 0) + ms73) ?_ (by omega) (by omega)
  refine v_callV 1 dX7_command_48 hM rfl hh69 rfl (lw_V q2076 q2078 qs36 q139 q2079) rfl (by decide +kernel) (by decide) rfl (cat_len (Nat.le_of_ble_eq_true rfl)) (kk_R fun r71 h70 hg => ?_) (fun _ _ _ hx => vx_leave (by decide) hx)
  have hf := hg
  clear hg
  refine v_qstore_n (i := 1) (r := r71) (lv' := [(0, .ref a0), (1, va_rf r71)]) dX7_command_51 rfl (Nat.le_of_ble_eq_true rfl) rfl rfl ?_
  refine v_qload_n (r := r71) (i := 1) dX7_command_52 rfl rfl ?_
  refine v_qstore_n (i := 2) (r := r71) (lv' := [(0, .ref a0), (1, va_rf r71), (2, va_rf r71)]) dX7_command_53 rfl (Nat.le_of_ble_eq_true rfl) rfl rfl ?_
  refine v_iconst (v := -1) dX7_command_54 (by decide) ?_
  refine v_istore_n (i := 3) (lv' := [(0, .ref a0), (1, va_rf r71), (2, va_rf r71), (3, .int (-1 : Int32))]) dX7_command_55 rfl (Nat.le_of_ble_eq_true rfl) rfl rfl ?_
  refine v_qload_n (r := r71) (i := 2) dX7_command_56 rfl rfl ?_
  obtain ⟨a76, rfl⟩ := rv_s hf
  replace hf := rv_e hf
  obtain ⟨w77, fs78, hh79, hf⟩ := hf
  refine V.addK0 ?_
  refine V.addN0 ?_
  refine v_callV (mc := 0) (ms := 0) 0 dX7_command_57 (m_J6_hashCode hG hf) rfl hh79 rfl (lw_V q2130 q1003 q2872 q96 q1004) rfl (by decide +kernel) (by decide) rfl (cat_len (Nat.le_of_ble_eq_true rfl)) (kk_I fun i81 h80 hg => ?_) (fun _ _ _ hx => hx.elim)
  replace hf := hg
  clear hg
  by_cases e82_0 : i81 = (3288481 : Int32)
  · replace hf := hf.1 e82_0
    refine v_lookup (off := 72) 132 dX7_command_60 (by decide) (lk_at e82_0 (by decide)) (by decide) ?_
    refine v_qload_n (r := (some a76)) (i := 2) dX7_command_132 rfl rfl ?_
    refine v_ldcS dX7_command_133 (List.mem_of_getElem? (i := 7) rfl) ?_
    replace hf := rv_e hf
    obtain ⟨w83, fs84, hh85, hf⟩ := hf
    obtain ⟨mc88, ms89, hkmc88, hnms89, hM⟩ := hf
    refine V.weak (k' := (((k - mc72) - mc88) + 0) + mc88) (n' := (((n - ms73) - ms89) + 0) + ms89) ?_ (by omega) (by omega)
    refine v_callV 1 dX7_command_135 hM rfl hh85 rfl (lw_V q2131 q1428 q2873 q96 q1429) rfl (by decide +kernel) (by decide) rfl (cat_len (Nat.le_of_ble_eq_true rfl)) (kk_I fun i87 h86 hg => ?_) (fun _ _ _ hx => hx.elim)
    have hf := hg
    clear hg
    refine v_if_eq 157 dX7_command_138 (by decide) (fun c92 => ?_) (fun c92 => ?_)
    · replace hf := hf.1 c92
      refine V.lp (lv' := [(0, .ref a0), (1, va_rf (some a76)), (3, .int (-1 : Int32))]) [0, 1, 3] rfl ?_
      exact V.weak hf (by omega) (by omega)
    · replace hf := hf.2 c92
      refine v_iconst (v := 2) dX7_command_141 (by decide) ?_
      refine v_istore_n (i := 3) (lv' := [(0, .ref a0), (1, va_rf (some a76)), (2, va_rf (some a76)), (3, .int (2 : Int32))]) dX7_command_142 rfl (Nat.le_of_ble_eq_true rfl) rfl rfl ?_
      refine v_goto 157 dX7_command_143 (by decide) ?_
      refine V.lp (lv' := [(0, .ref a0), (1, va_rf (some a76)), (3, .int (2 : Int32))]) [0, 1, 3] rfl ?_
      exact V.weak hf (by omega) (by omega)
  by_cases e82_1 : i81 = (3411086 : Int32)
  · replace hf := hf.2.1 e82_1
    refine v_lookup (off := 58) 118 dX7_command_60 (by decide) (lk_at e82_1 (by decide)) (by decide) ?_
    refine v_qload_n (r := (some a76)) (i := 2) dX7_command_118 rfl rfl ?_
    refine v_ldcS dX7_command_119 (List.mem_of_getElem? (i := 5) rfl) ?_
    replace hf := rv_e hf
    obtain ⟨w93, fs94, hh95, hf⟩ := hf
    obtain ⟨mc98, ms99, hkmc98, hnms99, hM⟩ := hf
    refine V.weak (k' := (((k - mc72) - mc98) + 0) + mc98) (n' := (((n - ms73) - ms99) + 0) + ms99) ?_ (by omega) (by omega)
    refine v_callV 1 dX7_command_121 hM rfl hh95 rfl (lw_V q2131 q1428 q2873 q96 q1429) rfl (by decide +kernel) (by decide) rfl (cat_len (Nat.le_of_ble_eq_true rfl)) (kk_I fun i97 h96 hg => ?_) (fun _ _ _ hx => hx.elim)
    have hf := hg
    clear hg
    refine v_if_eq 157 dX7_command_124 (by decide) (fun c102 => ?_) (fun c102 => ?_)
    · replace hf := hf.1 c102
      refine V.lp (lv' := [(0, .ref a0), (1, va_rf (some a76)), (3, .int (-1 : Int32))]) [0, 1, 3] rfl ?_
      exact V.weak hf (by omega) (by omega)
    · replace hf := hf.2 c102
      refine v_iconst (v := 1) dX7_command_127 (by decide) ?_
      refine v_istore_n (i := 3) (lv' := [(0, .ref a0), (1, va_rf (some a76)), (2, va_rf (some a76)), (3, .int (1 : Int32))]) dX7_command_128 rfl (Nat.le_of_ble_eq_true rfl) rfl rfl ?_
      refine v_goto 157 dX7_command_129 (by decide) ?_
      refine V.lp (lv' := [(0, .ref a0), (1, va_rf (some a76)), (3, .int (1 : Int32))]) [0, 1, 3] rfl ?_
      exact V.weak hf (by omega) (by omega)
  by_cases e82_2 : i81 = (95769138 : Int32)
  · replace hf := hf.2.2.1 e82_2
    refine v_lookup (off := 86) 146 dX7_command_60 (by decide) (lk_at e82_2 (by decide)) (by decide) ?_
    refine v_qload_n (r := (some a76)) (i := 2) dX7_command_146 rfl rfl ?_
    refine v_ldcS dX7_command_147 (List.mem_of_getElem? (i := 8) rfl) ?_
    replace hf := rv_e hf
    obtain ⟨w103, fs104, hh105, hf⟩ := hf
    obtain ⟨mc108, ms109, hkmc108, hnms109, hM⟩ := hf
    refine V.weak (k' := (((k - mc72) - mc108) + 0) + mc108) (n' := (((n - ms73) - ms109) + 0) + ms109) ?_ (by omega) (by omega)
    refine v_callV 1 dX7_command_149 hM rfl hh105 rfl (lw_V q2131 q1428 q2873 q96 q1429) rfl (by decide +kernel) (by decide) rfl (cat_len (Nat.le_of_ble_eq_true rfl)) (kk_I fun i107 h106 hg => ?_) (fun _ _ _ hx => hx.elim)
    have hf := hg
    clear hg
    refine v_if_eq 157 dX7_command_152 (by decide) (fun c112 => ?_) (fun c112 => ?_)
    · replace hf := hf.1 c112
      refine V.lp (lv' := [(0, .ref a0), (1, va_rf (some a76)), (3, .int (-1 : Int32))]) [0, 1, 3] rfl ?_
      exact V.weak hf (by omega) (by omega)
    · replace hf := hf.2 c112
      refine v_iconst (v := 3) dX7_command_155 (by decide) ?_
      refine v_istore_n (i := 3) (lv' := [(0, .ref a0), (1, va_rf (some a76)), (2, va_rf (some a76)), (3, .int (3 : Int32))]) dX7_command_156 rfl (Nat.le_of_ble_eq_true rfl) rfl rfl ?_
      refine V.lp (lv' := [(0, .ref a0), (1, va_rf (some a76)), (3, .int (3 : Int32))]) [0, 1, 3] rfl ?_
      exact V.weak hf (by omega) (by omega)
  by_cases e82_3 : i81 = (110124153 : Int32)
  · replace hf := hf.2.2.2.1 e82_3
    refine v_lookup (off := 44) 104 dX7_command_60 (by decide) (lk_at e82_3 (by decide)) (by decide) ?_
    refine v_qload_n (r := (some a76)) (i := 2) dX7_command_104 rfl rfl ?_
    refine v_ldcS dX7_command_105 (List.mem_of_getElem? (i := 3) rfl) ?_
    replace hf := rv_e hf
    obtain ⟨w113, fs114, hh115, hf⟩ := hf
    obtain ⟨mc118, ms119, hkmc118, hnms119, hM⟩ := hf
    refine V.weak (k' := (((k - mc72) - mc118) + 0) + mc118) (n' := (((n - ms73) - ms119) + 0) + ms119) ?_ (by omega) (by omega)
    refine v_callV 1 dX7_command_107 hM rfl hh115 rfl (lw_V q2131 q1428 q2873 q96 q1429) rfl (by decide +kernel) (by decide) rfl (cat_len (Nat.le_of_ble_eq_true rfl)) (kk_I fun i117 h116 hg => ?_) (fun _ _ _ hx => hx.elim)
    have hf := hg
    clear hg
    refine v_if_eq 157 dX7_command_110 (by decide) (fun c122 => ?_) (fun c122 => ?_)
    · replace hf := hf.1 c122
      refine V.lp (lv' := [(0, .ref a0), (1, va_rf (some a76)), (3, .int (-1 : Int32))]) [0, 1, 3] rfl ?_
      exact V.weak hf (by omega) (by omega)
    · replace hf := hf.2 c122
      refine v_iconst (v := 0) dX7_command_113 (by decide) ?_
      refine v_istore_n (i := 3) (lv' := [(0, .ref a0), (1, va_rf (some a76)), (2, va_rf (some a76)), (3, .int (0 : Int32))]) dX7_command_114 rfl (Nat.le_of_ble_eq_true rfl) rfl rfl ?_
      refine v_goto 157 dX7_command_115 (by decide) ?_
      refine V.lp (lv' := [(0, .ref a0), (1, va_rf (some a76)), (3, .int (0 : Int32))]) [0, 1, 3] rfl ?_
      exact V.weak hf (by omega) (by omega)
  replace hf := hf.2.2.2.2 e82_0 e82_1 e82_2 e82_3
  refine v_lookup (off := 97) 157 dX7_command_60 (by decide) (lk_no (List.forall_mem_cons.mpr ⟨lk_ne e82_0 (v := (3288481 : Int32)) (by decide), (List.forall_mem_cons.mpr ⟨lk_ne e82_1 (v := (3411086 : Int32)) (by decide), (List.forall_mem_cons.mpr ⟨lk_ne e82_2 (v := (95769138 : Int32)) (by decide), (List.forall_mem_cons.mpr ⟨lk_ne e82_3 (v := (110124153 : Int32)) (by decide), (fun _ h => nomatch h)⟩)⟩)⟩)⟩)) (by decide) ?_
  refine V.lp (lv' := [(0, .ref a0), (1, va_rf (some a76)), (3, .int (-1 : Int32))]) [0, 1, 3] rfl ?_
  exact V.weak hf (by omega) (by omega)
def g_X7_command_157 (G : Gt) (E : Ev) (h : Hp) (k n : Nat) (a0 : Nat) (r_1 : Option Nat) (i_3 : Int32) (K : Option Nat → Hp → Prop) (X : Nat → Nat → Hp → Prop) : Prop :=
((i_3 = (0 : Int32) → nO h 9 [.null, .null] fun a1 h2 =>
nA h2 0 (1, .inl (fun _ => 0)) fun a3 h4 =>
rv h4 (some a0) 7 (dI G Y_X7_number cX7_number 4 [va_rf (some a0), .int (1 : Int32)] h4 k n (fun i9 h8 k12 n13 =>
sI h8 (some a3) (0 : Int32) i9 fun h18 =>
f_X9_init G h18 (some a1) r_1 (some a3) (fun h19 =>
K (some a1) h19)) X)) ∧
(i_3 = (1 : Int32) → rv h (some a0) 7 (dI G Y_X7_number cX7_number 4 [va_rf (some a0), .int (1 : Int32)] h k n (fun i24 h23 k27 n28 =>
nO h23 9 [.null, .null] fun a29 h30 =>
nA h30 0 (2, .inl (fun _ => 0)) fun a31 h32 =>
sI h32 (some a31) (0 : Int32) i24 fun h37 =>
rv h37 (some a0) 7 (dI G Y_X7_behindBlank cX7_behindBlank 2 [va_rf (some a0), .int (2 : Int32)] h37 k27 n28 (fun i42 h41 k45 n46 =>
sI h41 (some a31) (1 : Int32) i42 fun h51 =>
f_X9_init G h51 (some a29) r_1 (some a31) (fun h52 =>
K (some a29) h52)) X)) X)) ∧
(i_3 = (2 : Int32) → rv h (some a0) 7 (dI G Y_X7_number cX7_number 4 [va_rf (some a0), .int (1 : Int32)] h k n (fun i57 h56 k60 n61 =>
nO h56 9 [.null, .null] fun a62 h63 =>
nA h63 0 (2, .inl (fun _ => 0)) fun a64 h65 =>
sI h65 (some a64) (0 : Int32) i57 fun h70 =>
rv h70 (some a0) 7 (dI G Y_X7_behindBlank cX7_behindBlank 2 [va_rf (some a0), .int (1 : Int32)] h70 k60 n61 (fun i75 h74 k78 n79 =>
sI h74 (some a64) (1 : Int32) i75 fun h84 =>
f_X9_init G h84 (some a62) r_1 (some a64) (fun h85 =>
K (some a62) h85)) X)) X)) ∧
(i_3 = (3 : Int32) → rv h (some a0) 7 (dI G Y_X7_number cX7_number 4 [va_rf (some a0), .int (1 : Int32)] h k n (fun i90 h89 k93 n94 =>
rv h89 (some a0) 7 (dI G Y_X7_behindBlank cX7_behindBlank 2 [va_rf (some a0), .int (1 : Int32)] h89 k93 n94 (fun i99 h98 k102 n103 =>
rv h98 (some a0) 7 (dI G Y_X7_behindBlank cX7_behindBlank 2 [va_rf (some a0), .int (1 : Int32)] h98 k102 n103 (fun i108 h107 k111 n112 =>
nO h107 9 [.null, .null] fun a113 h114 =>
nA h114 0 (4, .inl (fun _ => 0)) fun a115 h116 =>
sI h116 (some a115) (0 : Int32) i90 fun h121 =>
sI h121 (some a115) (1 : Int32) i99 fun h126 =>
sI h126 (some a115) (2 : Int32) i108 fun h131 =>
rv h131 (some a0) 7 (dI G Y_X7_lock cX7_lock 1 [va_rf (some a0)] h131 k111 n112 (fun i136 h135 k139 n140 =>
sI h135 (some a115) (3 : Int32) i136 fun h145 =>
f_X9_init G h145 (some a113) r_1 (some a115) (fun h146 =>
K (some a113) h146)) X)) X)) X)) X)) ∧
(i_3.toInt < 0 ∨ 3 < i_3.toInt → nO h 9 [.null, .null] fun a147 h148 =>
nA h148 0 (1, .inl (fun _ => 0)) fun a149 h150 =>
rv h150 (some a0) 7 (dI G Y_X7_number cX7_number 4 [va_rf (some a0), .int (2 : Int32)] h150 k n (fun i155 h154 k158 n159 =>
sI h154 (some a149) (0 : Int32) i155 fun h164 =>
f_X9_init G h164 (some a147) r_1 (some a149) (fun h165 =>
K (some a147) h165)) X)))
theorem s_X7_command_157 {G : Gt} {E : Ev} {h : Hp} {k0 n0 : Nat} {a0 : Nat} {r_1 : Option Nat} {i_3 : Int32} {K : Option Nat → Hp → Prop} {X : Nat → Nat → Hp → Prop} (hG : Base G) (hA : 2 ≤ k0) (hB : 6 ≤ n0) (hf : g_X7_command_157 G E h (k0 - 2) (n0 - 6) a0 r_1 i_3 K X) : V G E Y_X7_command cX7_command 9 (QM G E (kR K) X) h k0 n0 157 [(0, .ref a0), (1, va_rf r_1), (3, .int i_3)] [] := by
  obtain ⟨k, hk9⟩ : ∃ z, z = k0 - 2 := ⟨_, rfl⟩
  obtain ⟨n, hn9⟩ : ∃ z, z = n0 - 6 := ⟨_, rfl⟩
  rw [← hk9, ← hn9] at hf
  refine V.weak (k' := k + 2) (n' := n + 6) ?_ (by omega) (by omega)
  unfold g_X7_command_157 at hf
  refine v_iload_n (i := 3) dX7_command_157 rfl rfl ?_
  have hx : i_3.toInt = 0 ∨ i_3.toInt = 1 ∨ i_3.toInt = 2 ∨ i_3.toInt = 3 ∨ (i_3.toInt < 0 ∨ 3 < i_3.toInt) := by omega
  rcases hx with hx | hx | hx | hx | hx
  · have e9 : i_3 = (0 : Int32) := Int32.toInt_inj.mp hx
    replace hf := hf.1 e9
    refine v_tableAt (v := (0 : Int32)) (off := 30) 188 dX7_command_158 e9 (by decide) (by decide) (by decide) (by decide) ?_
    refine v_new (N := 2) (fs := [.null, .null]) (ci := 9) dX7_command_188 q2132 q2133 q141 rfl in_X9 tyX9 tyX9_ok rfl (fun a1 ha1 => ?_)
    replace hf := hf a1 ha1
    obtain ⟨h2, eh2⟩ : ∃ z, z = hs h a1 (true, .inr (9, [.null, .null])) := ⟨_, rfl⟩
    try rw [← eh2] at hf
    rw [← eh2]
    refine v_dup dX7_command_191 rfl ?_
    refine v_qload_n (r := r_1) (i := 1) dX7_command_192 rfl rfl ?_
    refine v_iconst (v := 1) dX7_command_193 (by decide) ?_
    refine v_newa (t := 0) (N := 1) (x := (1, .inl (fun _ => 0))) dX7_command_194 (Nat.le_of_ble_eq_true rfl) rfl q219 (fun _ => rfl) rfl (Nat.le_of_ble_eq_true rfl) (fun a3 ha3 => ?_)
    replace hf := hf a3 ha3
    obtain ⟨h4, eh4⟩ : ∃ z, z = hs h2 a3 (true, .inl (0, (1, .inl (fun _ => 0)))) := ⟨_, rfl⟩
    try rw [← eh4] at hf
    rw [← eh4]
    refine v_dup dX7_command_196 rfl ?_
    refine v_iconst (v := 0) dX7_command_197 (by decide) ?_
    refine v_aload_n (i := 0) dX7_command_198 rfl rfl ?_
    refine v_iconst (v := 1) dX7_command_199 (by decide) ?_
    replace hf := rv_e hf
    obtain ⟨w5, fs6, hh7, hf⟩ := hf
    obtain ⟨mc10, ms11, hkmc10, hnms11, hM⟩ := hf
    refine V.weak (k' := ((k - mc10) + 0) + mc10) (n' := ((n - ms11) + 0) + ms11) ?_ (by omega) (by omega)
    refine v_callV 1 dX7_command_200 hM rfl hh7 rfl (lw_V q2134 q2136 qs38 q139 q2137) rfl (by decide +kernel) (by decide) rfl (cat_all (ac_c rfl (ac_c rfl (ac_c rfl (ac_c (rf_cat _) (ac_c rfl (ac_c rfl ac_nil)))))) (Nat.le_of_ble_eq_true rfl)) (kk_I fun i9 h8 hg => ?_) (fun _ _ _ hx => vx_leave (by decide) hx)
    have hf := hg
    clear hg
    replace hf := sI_e hf
    obtain ⟨N14, f15, hh16, hi17, hf⟩ := hf
    refine v_iast dX7_command_203 hh16 hi17 ?_
    obtain ⟨h18, eh18⟩ : ∃ z, z = hs h8 a3 (true, .inl (0, N14, .inl (upd f15 ((0 : Int32)).toNatClampNeg (i9)))) := ⟨_, rfl⟩
    try rw [← eh18] at hf
    rw [← eh18]
    refine V.addK0 ?_
    refine V.addN0 ?_
    refine v_callI (mc := 0) (ms := 0) 2 dX7_command_204 (m_X9_init hG hf) rfl (lw_meth q2149) rfl q141 q2147 q2148 rfl rfl (by decide +kernel) (by decide) rfl (cat_len (Nat.le_of_ble_eq_true rfl)) (kk_V fun h19 hg => ?_) (fun _ _ _ hx => hx.elim)
    replace hf := hg
    clear hg
    exact v_qret (r := (some a1)) dX7_command_207 rfl (Or.inl ⟨_, rfl⟩) ⟨_, rfl, hf⟩
  · have e9 : i_3 = (1 : Int32) := Int32.toInt_inj.mp hx
    replace hf := hf.2.1 e9
    refine v_tableAt (v := (1 : Int32)) (off := 50) 208 dX7_command_158 e9 (by decide) (by decide) (by decide) (by decide) ?_
    refine v_aload_n (i := 0) dX7_command_208 rfl rfl ?_
    refine v_iconst (v := 1) dX7_command_209 (by decide) ?_
    replace hf := rv_e hf
    obtain ⟨w20, fs21, hh22, hf⟩ := hf
    obtain ⟨mc25, ms26, hkmc25, hnms26, hM⟩ := hf
    refine V.weak (k' := ((k - mc25) + 2) + mc25) (n' := ((n - ms26) + 4) + ms26) ?_ (by omega) (by omega)
    refine v_callV 1 dX7_command_210 hM rfl hh22 rfl (lw_V q2134 q2136 qs38 q139 q2137) rfl (by decide +kernel) (by decide) rfl (cat_len (Nat.le_of_ble_eq_true rfl)) (kk_I fun i24 h23 hg => ?_) (fun _ _ _ hx => vx_leave (by decide) hx)
    have hf := hg
    clear hg
    refine v_istore (i := 4) (lv' := [(0, .ref a0), (1, va_rf r_1), (3, .int i_3), (4, .int i24)]) dX7_command_213 (Nat.le_of_ble_eq_true rfl) rfl rfl ?_
    refine v_new (N := 2) (fs := [.null, .null]) (ci := 9) dX7_command_215 q2132 q2133 q141 rfl in_X9 tyX9 tyX9_ok rfl (fun a29 ha29 => ?_)
    replace hf := hf a29 ha29
    obtain ⟨h30, eh30⟩ : ∃ z, z = hs h23 a29 (true, .inr (9, [.null, .null])) := ⟨_, rfl⟩
    try rw [← eh30] at hf
    rw [← eh30]
    refine v_dup dX7_command_218 rfl ?_
    refine v_qload_n (r := r_1) (i := 1) dX7_command_219 rfl rfl ?_
    refine v_iconst (v := 2) dX7_command_220 (by decide) ?_
    refine v_newa (t := 0) (N := 2) (x := (2, .inl (fun _ => 0))) dX7_command_221 (Nat.le_of_ble_eq_true rfl) rfl q219 (fun _ => rfl) rfl (Nat.le_of_ble_eq_true rfl) (fun a31 ha31 => ?_)
    replace hf := hf a31 ha31
    obtain ⟨h32, eh32⟩ : ∃ z, z = hs h30 a31 (true, .inl (0, (2, .inl (fun _ => 0)))) := ⟨_, rfl⟩
    try rw [← eh32] at hf
    rw [← eh32]
    refine v_dup dX7_command_223 rfl ?_
    refine v_iconst (v := 0) dX7_command_224 (by decide) ?_
    refine v_iload (i := 4) dX7_command_225 rfl ?_
    replace hf := sI_e hf
    obtain ⟨N33, f34, hh35, hi36, hf⟩ := hf
    refine v_iast dX7_command_227 hh35 hi36 ?_
    obtain ⟨h37, eh37⟩ : ∃ z, z = hs h32 a31 (true, .inl (0, N33, .inl (upd f34 ((0 : Int32)).toNatClampNeg (i24)))) := ⟨_, rfl⟩
    try rw [← eh37] at hf
    rw [← eh37]
    refine v_dup dX7_command_228 rfl ?_
    refine v_iconst (v := 1) dX7_command_229 (by decide) ?_
    refine v_aload_n (i := 0) dX7_command_230 rfl rfl ?_
    refine v_iconst (v := 2) dX7_command_231 (by decide) ?_
    replace hf := rv_e hf
    obtain ⟨w38, fs39, hh40, hf⟩ := hf
    obtain ⟨mc43, ms44, hkmc43, hnms44, hM⟩ := hf
    refine V.weak (k' := (((k - mc25) - mc43) + 0) + mc43) (n' := (((n - ms26) - ms44) + 0) + ms44) ?_ (by omega) (by omega)
    refine v_callV 1 dX7_command_232 hM rfl hh40 rfl (lw_V q2158 q2160 qs41 q139 q2161) rfl (by decide +kernel) (by decide) rfl (cat_all (ac_c rfl (ac_c rfl (ac_c rfl (ac_c (rf_cat _) (ac_c rfl (ac_c rfl ac_nil)))))) (Nat.le_of_ble_eq_true rfl)) (kk_I fun i42 h41 hg => ?_) (fun _ _ _ hx => vx_leave (by decide) hx)
    have hf := hg
    clear hg
    replace hf := sI_e hf
    obtain ⟨N47, f48, hh49, hi50, hf⟩ := hf
    refine v_iast dX7_command_235 hh49 hi50 ?_
    obtain ⟨h51, eh51⟩ : ∃ z, z = hs h41 a31 (true, .inl (0, N47, .inl (upd f48 ((1 : Int32)).toNatClampNeg (i42)))) := ⟨_, rfl⟩
    try rw [← eh51] at hf
    rw [← eh51]
    refine V.addK0 ?_
    refine V.addN0 ?_
    refine v_callI (mc := 0) (ms := 0) 2 dX7_command_236 (m_X9_init hG hf) rfl (lw_meth q2149) rfl q141 q2147 q2148 rfl rfl (by decide +kernel) (by decide) rfl (cat_len (Nat.le_of_ble_eq_true rfl)) (kk_V fun h52 hg => ?_) (fun _ _ _ hx => hx.elim)
    replace hf := hg
    clear hg
    exact v_qret (r := (some a29)) dX7_command_239 rfl (Or.inl ⟨_, rfl⟩) ⟨_, rfl, hf⟩
  · have e9 : i_3 = (2 : Int32) := Int32.toInt_inj.mp hx
    replace hf := hf.2.2.1 e9
    refine v_tableAt (v := (2 : Int32)) (off := 82) 240 dX7_command_158 e9 (by decide) (by decide) (by decide) (by decide) ?_
    refine v_aload_n (i := 0) dX7_command_240 rfl rfl ?_
    refine v_iconst (v := 1) dX7_command_241 (by decide) ?_
    replace hf := rv_e hf
    obtain ⟨w53, fs54, hh55, hf⟩ := hf
    obtain ⟨mc58, ms59, hkmc58, hnms59, hM⟩ := hf
    refine V.weak (k' := ((k - mc58) + 2) + mc58) (n' := ((n - ms59) + 4) + ms59) ?_ (by omega) (by omega)
    refine v_callV 1 dX7_command_242 hM rfl hh55 rfl (lw_V q2134 q2136 qs38 q139 q2137) rfl (by decide +kernel) (by decide) rfl (cat_len (Nat.le_of_ble_eq_true rfl)) (kk_I fun i57 h56 hg => ?_) (fun _ _ _ hx => vx_leave (by decide) hx)
    have hf := hg
    clear hg
    refine v_istore (i := 5) (lv' := [(0, .ref a0), (1, va_rf r_1), (3, .int i_3), (5, .int i57)]) dX7_command_245 (Nat.le_of_ble_eq_true rfl) rfl rfl ?_
    refine v_new (N := 2) (fs := [.null, .null]) (ci := 9) dX7_command_247 q2132 q2133 q141 rfl in_X9 tyX9 tyX9_ok rfl (fun a62 ha62 => ?_)
    replace hf := hf a62 ha62
    obtain ⟨h63, eh63⟩ : ∃ z, z = hs h56 a62 (true, .inr (9, [.null, .null])) := ⟨_, rfl⟩
    try rw [← eh63] at hf
    rw [← eh63]
    refine v_dup dX7_command_250 rfl ?_
    refine v_qload_n (r := r_1) (i := 1) dX7_command_251 rfl rfl ?_
    refine v_iconst (v := 2) dX7_command_252 (by decide) ?_
    refine v_newa (t := 0) (N := 2) (x := (2, .inl (fun _ => 0))) dX7_command_253 (Nat.le_of_ble_eq_true rfl) rfl q219 (fun _ => rfl) rfl (Nat.le_of_ble_eq_true rfl) (fun a64 ha64 => ?_)
    replace hf := hf a64 ha64
    obtain ⟨h65, eh65⟩ : ∃ z, z = hs h63 a64 (true, .inl (0, (2, .inl (fun _ => 0)))) := ⟨_, rfl⟩
    try rw [← eh65] at hf
    rw [← eh65]
    refine v_dup dX7_command_255 rfl ?_
    refine v_iconst (v := 0) dX7_command_256 (by decide) ?_
    refine v_iload (i := 5) dX7_command_257 rfl ?_
    replace hf := sI_e hf
    obtain ⟨N66, f67, hh68, hi69, hf⟩ := hf
    refine v_iast dX7_command_259 hh68 hi69 ?_
    obtain ⟨h70, eh70⟩ : ∃ z, z = hs h65 a64 (true, .inl (0, N66, .inl (upd f67 ((0 : Int32)).toNatClampNeg (i57)))) := ⟨_, rfl⟩
    try rw [← eh70] at hf
    rw [← eh70]
    refine v_dup dX7_command_260 rfl ?_
    refine v_iconst (v := 1) dX7_command_261 (by decide) ?_
    refine v_aload_n (i := 0) dX7_command_262 rfl rfl ?_
    refine v_iconst (v := 1) dX7_command_263 (by decide) ?_
    replace hf := rv_e hf
    obtain ⟨w71, fs72, hh73, hf⟩ := hf
    obtain ⟨mc76, ms77, hkmc76, hnms77, hM⟩ := hf
    refine V.weak (k' := (((k - mc58) - mc76) + 0) + mc76) (n' := (((n - ms59) - ms77) + 0) + ms77) ?_ (by omega) (by omega)
    refine v_callV 1 dX7_command_264 hM rfl hh73 rfl (lw_V q2158 q2160 qs41 q139 q2161) rfl (by decide +kernel) (by decide) rfl (cat_all (ac_c rfl (ac_c rfl (ac_c rfl (ac_c (rf_cat _) (ac_c rfl (ac_c rfl ac_nil)))))) (Nat.le_of_ble_eq_true rfl)) (kk_I fun i75 h74 hg => ?_) (fun _ _ _ hx => vx_leave (by decide) hx)
    have hf := hg
    clear hg
    replace hf := sI_e hf
    obtain ⟨N80, f81, hh82, hi83, hf⟩ := hf
    refine v_iast dX7_command_267 hh82 hi83 ?_
    obtain ⟨h84, eh84⟩ : ∃ z, z = hs h74 a64 (true, .inl (0, N80, .inl (upd f81 ((1 : Int32)).toNatClampNeg (i75)))) := ⟨_, rfl⟩
    try rw [← eh84] at hf
    rw [← eh84]
    refine V.addK0 ?_
    refine V.addN0 ?_
    refine v_callI (mc := 0) (ms := 0) 2 dX7_command_268 (m_X9_init hG hf) rfl (lw_meth q2149) rfl q141 q2147 q2148 rfl rfl (by decide +kernel) (by decide) rfl (cat_len (Nat.le_of_ble_eq_true rfl)) (kk_V fun h85 hg => ?_) (fun _ _ _ hx => hx.elim)
    replace hf := hg
    clear hg
    exact v_qret (r := (some a62)) dX7_command_271 rfl (Or.inl ⟨_, rfl⟩) ⟨_, rfl, hf⟩
  · have e9 : i_3 = (3 : Int32) := Int32.toInt_inj.mp hx
    replace hf := hf.2.2.2.1 e9
    refine v_tableAt (v := (3 : Int32)) (off := 114) 272 dX7_command_158 e9 (by decide) (by decide) (by decide) (by decide) ?_
    refine v_aload_n (i := 0) dX7_command_272 rfl rfl ?_
    refine v_iconst (v := 1) dX7_command_273 (by decide) ?_
    replace hf := rv_e hf
    obtain ⟨w86, fs87, hh88, hf⟩ := hf
    obtain ⟨mc91, ms92, hkmc91, hnms92, hM⟩ := hf
    refine V.weak (k' := ((k - mc91) + 2) + mc91) (n' := ((n - ms92) + 6) + ms92) ?_ (by omega) (by omega)
    refine v_callV 1 dX7_command_274 hM rfl hh88 rfl (lw_V q2134 q2136 qs38 q139 q2137) rfl (by decide +kernel) (by decide) rfl (cat_len (Nat.le_of_ble_eq_true rfl)) (kk_I fun i90 h89 hg => ?_) (fun _ _ _ hx => vx_leave (by decide) hx)
    have hf := hg
    clear hg
    refine v_istore (i := 6) (lv' := [(0, .ref a0), (1, va_rf r_1), (3, .int i_3), (6, .int i90)]) dX7_command_277 (Nat.le_of_ble_eq_true rfl) rfl rfl ?_
    refine v_aload_n (i := 0) dX7_command_279 rfl rfl ?_
    refine v_iconst (v := 1) dX7_command_280 (by decide) ?_
    replace hf := rv_e hf
    obtain ⟨w95, fs96, hh97, hf⟩ := hf
    obtain ⟨mc100, ms101, hkmc100, hnms101, hM⟩ := hf
    refine V.weak (k' := (((k - mc91) - mc100) + 2) + mc100) (n' := (((n - ms92) - ms101) + 6) + ms101) ?_ (by omega) (by omega)
    refine v_callV 1 dX7_command_281 hM rfl hh97 rfl (lw_V q2158 q2160 qs41 q139 q2161) rfl (by decide +kernel) (by decide) rfl (cat_len (Nat.le_of_ble_eq_true rfl)) (kk_I fun i99 h98 hg => ?_) (fun _ _ _ hx => vx_leave (by decide) hx)
    have hf := hg
    clear hg
    refine v_istore (i := 7) (lv' := [(0, .ref a0), (1, va_rf r_1), (3, .int i_3), (6, .int i90), (7, .int i99)]) dX7_command_284 (Nat.le_of_ble_eq_true rfl) rfl rfl ?_
    refine v_aload_n (i := 0) dX7_command_286 rfl rfl ?_
    refine v_iconst (v := 1) dX7_command_287 (by decide) ?_
    replace hf := rv_e hf
    obtain ⟨w104, fs105, hh106, hf⟩ := hf
    obtain ⟨mc109, ms110, hkmc109, hnms110, hM⟩ := hf
    refine V.weak (k' := ((((k - mc91) - mc100) - mc109) + 2) + mc109) (n' := ((((n - ms92) - ms101) - ms110) + 6) + ms110) ?_ (by omega) (by omega)
    refine v_callV 1 dX7_command_288 hM rfl hh106 rfl (lw_V q2158 q2160 qs41 q139 q2161) rfl (by decide +kernel) (by decide) rfl (cat_len (Nat.le_of_ble_eq_true rfl)) (kk_I fun i108 h107 hg => ?_) (fun _ _ _ hx => vx_leave (by decide) hx)
    have hf := hg
    clear hg
    refine v_istore (i := 8) (lv' := [(0, .ref a0), (1, va_rf r_1), (3, .int i_3), (6, .int i90), (7, .int i99), (8, .int i108)]) dX7_command_291 (Nat.le_of_ble_eq_true rfl) rfl rfl ?_
    refine v_new (N := 2) (fs := [.null, .null]) (ci := 9) dX7_command_293 q2132 q2133 q141 rfl in_X9 tyX9 tyX9_ok rfl (fun a113 ha113 => ?_)
    replace hf := hf a113 ha113
    obtain ⟨h114, eh114⟩ : ∃ z, z = hs h107 a113 (true, .inr (9, [.null, .null])) := ⟨_, rfl⟩
    try rw [← eh114] at hf
    rw [← eh114]
    refine v_dup dX7_command_296 rfl ?_
    refine v_qload_n (r := r_1) (i := 1) dX7_command_297 rfl rfl ?_
    refine v_iconst (v := 4) dX7_command_298 (by decide) ?_
    refine v_newa (t := 0) (N := 4) (x := (4, .inl (fun _ => 0))) dX7_command_299 (Nat.le_of_ble_eq_true rfl) rfl q219 (fun _ => rfl) rfl (Nat.le_of_ble_eq_true rfl) (fun a115 ha115 => ?_)
    replace hf := hf a115 ha115
    obtain ⟨h116, eh116⟩ : ∃ z, z = hs h114 a115 (true, .inl (0, (4, .inl (fun _ => 0)))) := ⟨_, rfl⟩
    try rw [← eh116] at hf
    rw [← eh116]
    refine v_dup dX7_command_301 rfl ?_
    refine v_iconst (v := 0) dX7_command_302 (by decide) ?_
    refine v_iload (i := 6) dX7_command_303 rfl ?_
    replace hf := sI_e hf
    obtain ⟨N117, f118, hh119, hi120, hf⟩ := hf
    refine v_iast dX7_command_305 hh119 hi120 ?_
    obtain ⟨h121, eh121⟩ : ∃ z, z = hs h116 a115 (true, .inl (0, N117, .inl (upd f118 ((0 : Int32)).toNatClampNeg (i90)))) := ⟨_, rfl⟩
    try rw [← eh121] at hf
    rw [← eh121]
    refine v_dup dX7_command_306 rfl ?_
    refine v_iconst (v := 1) dX7_command_307 (by decide) ?_
    refine v_iload (i := 7) dX7_command_308 rfl ?_
    replace hf := sI_e hf
    obtain ⟨N122, f123, hh124, hi125, hf⟩ := hf
    refine v_iast dX7_command_310 hh124 hi125 ?_
    obtain ⟨h126, eh126⟩ : ∃ z, z = hs h121 a115 (true, .inl (0, N122, .inl (upd f123 ((1 : Int32)).toNatClampNeg (i99)))) := ⟨_, rfl⟩
    try rw [← eh126] at hf
    rw [← eh126]
    refine v_dup dX7_command_311 rfl ?_
    refine v_iconst (v := 2) dX7_command_312 (by decide) ?_
    refine v_iload (i := 8) dX7_command_313 rfl ?_
    replace hf := sI_e hf
    obtain ⟨N127, f128, hh129, hi130, hf⟩ := hf
    refine v_iast dX7_command_315 hh129 hi130 ?_
    obtain ⟨h131, eh131⟩ : ∃ z, z = hs h126 a115 (true, .inl (0, N127, .inl (upd f128 ((2 : Int32)).toNatClampNeg (i108)))) := ⟨_, rfl⟩
    try rw [← eh131] at hf
    rw [← eh131]
    refine v_dup dX7_command_316 rfl ?_
    refine v_iconst (v := 3) dX7_command_317 (by decide) ?_
    refine v_aload_n (i := 0) dX7_command_318 rfl rfl ?_
    replace hf := rv_e hf
    obtain ⟨w132, fs133, hh134, hf⟩ := hf
    obtain ⟨mc137, ms138, hkmc137, hnms138, hM⟩ := hf
    refine V.weak (k' := (((((k - mc91) - mc100) - mc109) - mc137) + 0) + mc137) (n' := (((((n - ms92) - ms101) - ms110) - ms138) + 0) + ms138) ?_ (by omega) (by omega)
    refine v_callV 0 dX7_command_319 hM rfl hh134 rfl (lw_V q2166 q2168 qs43 q139 q2169) rfl (by decide +kernel) (by decide) rfl (cat_all (ac_c rfl (ac_c rfl (ac_c rfl (ac_c (rf_cat _) (ac_c rfl (ac_c rfl ac_nil)))))) (Nat.le_of_ble_eq_true rfl)) (kk_I fun i136 h135 hg => ?_) (fun _ _ _ hx => vx_leave (by decide) hx)
    have hf := hg
    clear hg
    replace hf := sI_e hf
    obtain ⟨N141, f142, hh143, hi144, hf⟩ := hf
    refine v_iast dX7_command_322 hh143 hi144 ?_
    obtain ⟨h145, eh145⟩ : ∃ z, z = hs h135 a115 (true, .inl (0, N141, .inl (upd f142 ((3 : Int32)).toNatClampNeg (i136)))) := ⟨_, rfl⟩
    try rw [← eh145] at hf
    rw [← eh145]
    refine V.addK0 ?_
    refine V.addN0 ?_
    refine v_callI (mc := 0) (ms := 0) 2 dX7_command_323 (m_X9_init hG hf) rfl (lw_meth q2149) rfl q141 q2147 q2148 rfl rfl (by decide +kernel) (by decide) rfl (cat_len (Nat.le_of_ble_eq_true rfl)) (kk_V fun h146 hg => ?_) (fun _ _ _ hx => hx.elim)
    replace hf := hg
    clear hg
    exact v_qret (r := (some a113)) dX7_command_326 rfl (Or.inl ⟨_, rfl⟩) ⟨_, rfl, hf⟩
  · replace hf := hf.2.2.2.2 hx
    refine v_tableOut 327 dX7_command_158 hx (by decide) ?_
    refine v_new (N := 2) (fs := [.null, .null]) (ci := 9) dX7_command_327 q2132 q2133 q141 rfl in_X9 tyX9 tyX9_ok rfl (fun a147 ha147 => ?_)
    replace hf := hf a147 ha147
    obtain ⟨h148, eh148⟩ : ∃ z, z = hs h a147 (true, .inr (9, [.null, .null])) := ⟨_, rfl⟩
    try rw [← eh148] at hf
    rw [← eh148]
    refine v_dup dX7_command_330 rfl ?_
    refine v_qload_n (r := r_1) (i := 1) dX7_command_331 rfl rfl ?_
    refine v_iconst (v := 1) dX7_command_332 (by decide) ?_
    refine v_newa (t := 0) (N := 1) (x := (1, .inl (fun _ => 0))) dX7_command_333 (Nat.le_of_ble_eq_true rfl) rfl q219 (fun _ => rfl) rfl (Nat.le_of_ble_eq_true rfl) (fun a149 ha149 => ?_)
    replace hf := hf a149 ha149
    obtain ⟨h150, eh150⟩ : ∃ z, z = hs h148 a149 (true, .inl (0, (1, .inl (fun _ => 0)))) := ⟨_, rfl⟩
    try rw [← eh150] at hf
    rw [← eh150]
    refine v_dup dX7_command_335 rfl ?_
    refine v_iconst (v := 0) dX7_command_336 (by decide) ?_
    refine v_aload_n (i := 0) dX7_command_337 rfl rfl ?_
    refine v_iconst (v := 2) dX7_command_338 (by decide) ?_
    replace hf := rv_e hf
    obtain ⟨w151, fs152, hh153, hf⟩ := hf
    obtain ⟨mc156, ms157, hkmc156, hnms157, hM⟩ := hf
    refine V.weak (k' := ((k - mc156) + 0) + mc156) (n' := ((n - ms157) + 0) + ms157) ?_ (by omega) (by omega)
    refine v_callV 1 dX7_command_339 hM rfl hh153 rfl (lw_V q2134 q2136 qs38 q139 q2137) rfl (by decide +kernel) (by decide) rfl (cat_all (ac_c rfl (ac_c rfl (ac_c rfl (ac_c (rf_cat _) (ac_c rfl (ac_c rfl ac_nil)))))) (Nat.le_of_ble_eq_true rfl)) (kk_I fun i155 h154 hg => ?_) (fun _ _ _ hx => vx_leave (by decide) hx)
    have hf := hg
    clear hg
    replace hf := sI_e hf
    obtain ⟨N160, f161, hh162, hi163, hf⟩ := hf
    refine v_iast dX7_command_342 hh162 hi163 ?_
    obtain ⟨h164, eh164⟩ : ∃ z, z = hs h154 a149 (true, .inl (0, N160, .inl (upd f161 ((0 : Int32)).toNatClampNeg (i155)))) := ⟨_, rfl⟩
    try rw [← eh164] at hf
    rw [← eh164]
    refine V.addK0 ?_
    refine V.addN0 ?_
    refine v_callI (mc := 0) (ms := 0) 2 dX7_command_343 (m_X9_init hG hf) rfl (lw_meth q2149) rfl q141 q2147 q2148 rfl rfl (by decide +kernel) (by decide) rfl (cat_len (Nat.le_of_ble_eq_true rfl)) (kk_V fun h165 hg => ?_) (fun _ _ _ hx => hx.elim)
    replace hf := hg
    clear hg
    exact v_qret (r := (some a147)) dX7_command_346 rfl (Or.inl ⟨_, rfl⟩) ⟨_, rfl, hf⟩
theorem b_X7_command {G : Gt} {h : Hp} {mc ms : Nat} {a0 : Nat} {K : Option Nat → Hp → Prop} {X : Nat → Nat → Hp → Prop} (hG : Base G) (hf : ∀ E : Ev, V G E Y_X7_command cX7_command 9 (QM G E (kR K) X) h mc ms 0 [(0, .ref a0)] []) : MM G Y_X7_command cX7_command 9 mc ms [.ref a0] h (kR K) X := mm_of hG (by decide +kernel) rfl (ac_c rfl ac_nil) (Nat.le_of_ble_eq_true rfl) (fun E _ _ => hf E)
abbrev Y_X7_commands : Yt := (yX7_commands, some (.object "java/util/LinkedList"), 9, 220, [])
def g_X7_commands_0 (G : Gt) (E : Ev) (h : Hp) (k n : Nat) (a0 : Nat) (K : Option Nat → Hp → Prop) (X : Nat → Nat → Hp → Prop) : Prop :=
nO h 19 [.int 0, .int 0, .null, .null] fun a1 h2 =>
f_J27_init G h2 (some a1) (fun h3 =>
rv h3 (some a0) 7 (dR G Y_X7_command cX7_command 9 [va_rf (some a0)] h3 k n (fun r8 h7 k11 n12 =>
rv h7 (some a1) 19 (f_J27_addLast G h7 (some a1) r8 (fun h16 =>
V G E Y_X7_commands cX7_commands 2 (QM G E (kR K) X) h16 k11 n12 16 [(0, .ref a0), (1, .ref a1)] []))) X))
theorem s_X7_commands_0 {G : Gt} {E : Ev} {h : Hp} {k0 n0 : Nat} {a0 : Nat} {K : Option Nat → Hp → Prop} {X : Nat → Nat → Hp → Prop} (hG : Base G) (hA : 2 ≤ k0) (hB : 7 ≤ n0) (hf : g_X7_commands_0 G E h (k0 - 2) (n0 - 7) a0 K X) : V G E Y_X7_commands cX7_commands 2 (QM G E (kR K) X) h k0 n0 0 [(0, .ref a0)] [] := by
  obtain ⟨k, hk9⟩ : ∃ z, z = k0 - 2 := ⟨_, rfl⟩
  obtain ⟨n, hn9⟩ : ∃ z, z = n0 - 7 := ⟨_, rfl⟩
  rw [← hk9, ← hn9] at hf
  refine V.weak (k' := k + 2) (n' := n + 7) ?_ (by omega) (by omega)
  unfold g_X7_commands_0 at hf
  refine v_new (N := 4) (fs := [.int 0, .int 0, .null, .null]) (ci := 19) dX7_commands_0 q2060 q867 q122 rfl in_J27 tyJ27 tyJ27_ok rfl (fun a1 ha1 => ?_)
  replace hf := hf a1 ha1
  obtain ⟨h2, eh2⟩ : ∃ z, z = hs h a1 (true, .inr (19, [.int 0, .int 0, .null, .null])) := ⟨_, rfl⟩
  try rw [← eh2] at hf
  rw [← eh2]
  refine v_dup dX7_commands_3 rfl ?_
  refine V.addK0 ?_
  refine V.addN0 ?_
  refine v_callI (mc := 0) (ms := 0) 0 dX7_commands_4 (m_J27_init hG hf) rfl (lw_meth q870) rfl q122 q2061 q869 rfl rfl (by decide +kernel) (by decide) rfl (cat_len (Nat.le_of_ble_eq_true rfl)) (kk_V fun h3 hg => ?_) (fun _ _ _ hx => hx.elim)
  replace hf := hg
  clear hg
  refine v_astore_n (i := 1) (lv' := [(0, .ref a0), (1, .ref a1)]) dX7_commands_7 rfl (Nat.le_of_ble_eq_true rfl) rfl rfl ?_
  refine v_aload_n (i := 1) dX7_commands_8 rfl rfl ?_
  refine v_aload_n (i := 0) dX7_commands_9 rfl rfl ?_
  replace hf := rv_e hf
  obtain ⟨w4, fs5, hh6, hf⟩ := hf
  obtain ⟨mc9, ms10, hkmc9, hnms10, hM⟩ := hf
  refine V.weak (k' := ((k - mc9) + 1) + mc9) (n' := ((n - ms10) + 3) + ms10) ?_ (by omega) (by omega)
  refine v_callV 0 dX7_commands_10 hM rfl hh6 rfl (lw_V q2062 q2064 qs35 q139 q2065) rfl (by decide +kernel) (by decide) rfl (cat_len (Nat.le_of_ble_eq_true rfl)) (kk_R fun r8 h7 hg => ?_) (fun _ _ _ hx => vx_leave (by decide) hx)
  have hf := hg
  clear hg
  replace hf := rv_e hf
  obtain ⟨w13, fs14, hh15, hf⟩ := hf
  refine v_callV (mc := 1) (ms := 3) 1 dX7_commands_13 (m_J27_addLast hG hf) rfl hh15 rfl (lw_V q2170 q902 q903 q122 q904) rfl (by decide +kernel) (by decide) rfl (cat_len (Nat.le_of_ble_eq_true rfl)) (kk_V fun h16 hg => ?_) (fun _ _ _ hx => hx.elim)
  replace hf := hg
  clear hg
  exact V.weak hf (by omega) (by omega)
def g_X7_commands_16 (G : Gt) (E : Ev) (h : Hp) (k n : Nat) (a0 : Nat) (r_1 : Option Nat) (K : Option Nat → Hp → Prop) (X : Nat → Nat → Hp → Prop) : Prop :=
rv h (some a0) 7 (f_X7_takes G h (some a0) (59 : Int32) (fun i5 h4 =>
((i5 = 0 → gI h4 (some a0) 7 0 fun i7 =>
gR h4 (some a0) 7 1 fun r12 =>
gR h4 r12 0 5 fun r17 =>
rv h4 r17 13 (f_J5_length G h4 r17 (fun i28 h27 =>
((¬ (i7 = i28) → rv h27 (some a0) 7 (f_X7_needs G h27 (some a0) (0 : Int32) (fun h33 =>
K r_1 h33) X)) ∧
(i7 = i28 → rv h27 (some a0) 7 (f_X7_needs G h27 (some a0) (1 : Int32) (fun h37 =>
K r_1 h37) X)))))) ∧
(¬ (i5 = 0) → rv h4 (some a0) 7 (dR G Y_X7_command cX7_command 9 [va_rf (some a0)] h4 k n (fun r42 h41 k45 n46 =>
rv h41 r_1 19 (f_J27_addLast G h41 r_1 r42 (fun h51 =>
V G E Y_X7_commands cX7_commands 2 (QM G E (kR K) X) h51 k45 n46 16 [(0, .ref a0), (1, va_rf r_1)] []))) X)))))
theorem s_X7_commands_16 {G : Gt} {E : Ev} {h : Hp} {k0 n0 : Nat} {a0 : Nat} {r_1 : Option Nat} {K : Option Nat → Hp → Prop} {X : Nat → Nat → Hp → Prop} (hG : Base G) (hA : 1 ≤ k0) (hB : 7 ≤ n0) (hf : g_X7_commands_16 G E h (k0 - 1) (n0 - 7) a0 r_1 K X) : V G E Y_X7_commands cX7_commands 2 (QM G E (kR K) X) h k0 n0 16 [(0, .ref a0), (1, va_rf r_1)] [] := by
  obtain ⟨k, hk9⟩ : ∃ z, z = k0 - 1 := ⟨_, rfl⟩
  obtain ⟨n, hn9⟩ : ∃ z, z = n0 - 7 := ⟨_, rfl⟩
  rw [← hk9, ← hn9] at hf
  refine V.weak (k' := k + 1) (n' := n + 7) ?_ (by omega) (by omega)
  unfold g_X7_commands_16 at hf
  refine v_aload_n (i := 0) dX7_commands_16 rfl rfl ?_
  refine v_bipush (v := 59) dX7_commands_17 (by decide) ?_
  replace hf := rv_e hf
  obtain ⟨w1, fs2, hh3, hf⟩ := hf
  refine V.addK0 ?_
  refine V.addN0 ?_
  refine v_callV (mc := 0) (ms := 0) 1 dX7_commands_19 (m_X7_takes hG hf) rfl hh3 rfl (lw_V q2162 q2164 qs42 q139 q2165) rfl (by decide +kernel) (by decide) rfl (cat_len (Nat.le_of_ble_eq_true rfl)) (kk_I fun i5 h4 hg => ?_) (fun _ _ _ hx => hx.elim)
  replace hf := hg
  clear hg
  refine v_if_eq 36 dX7_commands_22 (by decide) (fun c6 => ?_) (fun c6 => ?_)
  · replace hf := hf.1 c6
    refine v_aload_n (i := 0) dX7_commands_36 rfl rfl ?_
    refine v_aload_n (i := 0) dX7_commands_37 rfl rfl ?_
    replace hf := gI_e hf
    obtain ⟨w8, fs9, i7, hh10, hk11, hf⟩ := hf
    refine v_getf (T := TX7) (ci := 7) 0 dX7_commands_38 q2049 rfl in_X7 (Nat.le_of_ble_eq_true rfl) (Or.inl rfl) hh10 hk11 ?_
    refine v_aload_n (i := 0) dX7_commands_41 rfl rfl ?_
    replace hf := gR_e hf
    obtain ⟨w13, fs14, r12, hh15, hk16, hf⟩ := hf
    refine v_getf (T := TX7) (ci := 7) 1 dX7_commands_42 q2050 rfl in_X7 (Nat.le_of_ble_eq_true rfl) (Or.inl rfl) hh15 hk16 ?_
    obtain ⟨a18, rfl⟩ := gR_s hf
    replace hf := gR_e hf
    obtain ⟨w19, fs20, r17, hh21, hk22, hf⟩ := hf
    refine v_getfN (T := TX0) (ci := 0) 5 dX7_commands_45 q280 rfl in_X0 (Nat.le_of_ble_eq_true rfl) (Or.inl rfl) hh21 hk22 ?_
    obtain ⟨a23, rfl⟩ := rv_s hf
    replace hf := rv_e hf
    obtain ⟨w24, fs25, hh26, hf⟩ := hf
    refine V.addK0 ?_
    refine V.addN0 ?_
    refine v_callV (mc := 0) (ms := 0) 0 dX7_commands_48 (m_J5_length hG hf) rfl hh26 rfl (lw_V q2088 q1972 q1973 q95 q1974) rfl (by decide +kernel) (by decide) rfl (cat_len (Nat.le_of_ble_eq_true rfl)) (kk_I fun i28 h27 hg => ?_) (fun _ _ _ hx => hx.elim)
    replace hf := hg
    clear hg
    refine v_icmp_ne 58 dX7_commands_51 (by decide) (fun c29 => ?_) (fun c29 => ?_)
    · replace hf := hf.1 c29
      refine v_iconst (v := 0) dX7_commands_58 (by decide) ?_
      replace hf := rv_e hf
      obtain ⟨w30, fs31, hh32, hf⟩ := hf
      refine v_callV (mc := 1) (ms := 7) 1 dX7_commands_59 (m_X7_needs hG hf) rfl hh32 rfl (lw_V q2143 q2145 qs40 q139 q2146) rfl (by decide +kernel) (by decide) rfl (cat_len (Nat.le_of_ble_eq_true rfl)) (kk_V fun h33 hg => ?_) (fun _ _ _ hx => vx_leave (by decide) hx)
      replace hf := hg
      clear hg
      refine v_qload_n (r := r_1) (i := 1) dX7_commands_62 rfl rfl ?_
      exact v_qret (r := r_1) dX7_commands_63 rfl (Or.inl ⟨_, rfl⟩) ⟨_, rfl, hf⟩
    · replace hf := hf.2 c29
      refine v_iconst (v := 1) dX7_commands_54 (by decide) ?_
      refine v_goto 59 dX7_commands_55 (by decide) ?_
      replace hf := rv_e hf
      obtain ⟨w34, fs35, hh36, hf⟩ := hf
      refine v_callV (mc := 1) (ms := 7) 1 dX7_commands_59 (m_X7_needs hG hf) rfl hh36 rfl (lw_V q2143 q2145 qs40 q139 q2146) rfl (by decide +kernel) (by decide) rfl (cat_len (Nat.le_of_ble_eq_true rfl)) (kk_V fun h37 hg => ?_) (fun _ _ _ hx => vx_leave (by decide) hx)
      replace hf := hg
      clear hg
      refine v_qload_n (r := r_1) (i := 1) dX7_commands_62 rfl rfl ?_
      exact v_qret (r := r_1) dX7_commands_63 rfl (Or.inl ⟨_, rfl⟩) ⟨_, rfl, hf⟩
  · replace hf := hf.2 c6
    refine v_qload_n (r := r_1) (i := 1) dX7_commands_25 rfl rfl ?_
    refine v_aload_n (i := 0) dX7_commands_26 rfl rfl ?_
    replace hf := rv_e hf
    obtain ⟨w38, fs39, hh40, hf⟩ := hf
    obtain ⟨mc43, ms44, hkmc43, hnms44, hM⟩ := hf
    refine V.weak (k' := ((k - mc43) + 1) + mc43) (n' := ((n - ms44) + 3) + ms44) ?_ (by omega) (by omega)
    refine v_callV 0 dX7_commands_27 hM rfl hh40 rfl (lw_V q2062 q2064 qs35 q139 q2065) rfl (by decide +kernel) (by decide) rfl (cat_len (Nat.le_of_ble_eq_true rfl)) (kk_R fun r42 h41 hg => ?_) (fun _ _ _ hx => vx_leave (by decide) hx)
    have hf := hg
    clear hg
    obtain ⟨a47, rfl⟩ := rv_s hf
    replace hf := rv_e hf
    obtain ⟨w48, fs49, hh50, hf⟩ := hf
    refine v_callV (mc := 1) (ms := 3) 1 dX7_commands_30 (m_J27_addLast hG hf) rfl hh50 rfl (lw_V q2170 q902 q903 q122 q904) rfl (by decide +kernel) (by decide) rfl (cat_len (Nat.le_of_ble_eq_true rfl)) (kk_V fun h51 hg => ?_) (fun _ _ _ hx => hx.elim)
    replace hf := hg
    clear hg
    refine v_goto 16 dX7_commands_33 (by decide) ?_
    exact V.weak hf (by omega) (by omega)
theorem b_X7_commands {G : Gt} {h : Hp} {mc ms : Nat} {a0 : Nat} {K : Option Nat → Hp → Prop} {X : Nat → Nat → Hp → Prop} (hG : Base G) (hf : ∀ E : Ev, V G E Y_X7_commands cX7_commands 2 (QM G E (kR K) X) h mc ms 0 [(0, .ref a0)] []) : MM G Y_X7_commands cX7_commands 2 mc ms [.ref a0] h (kR K) X := mm_of hG (by decide +kernel) rfl (ac_c rfl ac_nil) (Nat.le_of_ble_eq_true rfl) (fun E _ _ => hf E)
abbrev Y_X0_isColour : Yt := (yX0_isColour, some (.boolean), 2, 62, [])
def f_X0_isColour (G : Gt) (h : Hp) (i_0 : Int32) (K : Int32 → Hp → Prop) : Prop :=
f_X0_isIn G h i_0 (0 : Int32) (2 : Int32) (fun i2 h1 =>
(narrow .boolean (.int i2) = .int i2 ∧ K i2 h1))
theorem m_X0_isColour {G : Gt} {h : Hp} {i_0 : Int32} {K : Int32 → Hp → Prop} (hG : Base G) (hf : f_X0_isColour G h i_0 K) : MM G Y_X0_isColour cX0_isColour 1 0 0 [.int i_0] h (kI K) xN := by
  refine mm_of hG (by decide +kernel) rfl (ac_c rfl ac_nil) (Nat.le_of_ble_eq_true rfl) (fun E _ _ => ?_)
  show V G E Y_X0_isColour cX0_isColour 1 (QM G E (kI K) xN) h 0 0 0 [(0, .int i_0)] []
  unfold f_X0_isColour at hf
  refine v_iload_n (i := 0) dX0_isColour_0 rfl rfl ?_
  refine v_iconst (v := 0) dX0_isColour_1 (by decide) ?_
  refine v_iconst (v := 2) dX0_isColour_2 (by decide) ?_
  refine V.addK0 ?_
  refine V.addN0 ?_
  refine v_callS (mc := 0) (ms := 0) 3 dX0_isColour_3 (m_X0_isIn hG hf) rfl (lw_S q306 q307 q88 q308) rfl (by decide +kernel) (by decide) rfl (cat_len (Nat.le_of_ble_eq_true rfl)) (kk_I fun i2 h1 hg => ?_) (fun _ _ _ hx => hx.elim)
  replace hf := hg
  clear hg
  exact v_zret dX0_isColour_6 rfl hf.1 ⟨_, rfl, hf.2⟩
abbrev Y_X9_isWalked : Yt := (yX9_isWalked, some (.boolean), 7, 177, [])
def g_X9_isWalked_0 (G : Gt) (E : Ev) (h : Hp) (k n : Nat) (a0 : Nat) (r_1 : Option Nat) (K : Int32 → Hp → Prop) (X : Nat → Nat → Hp → Prop) : Prop :=
gR h (some a0) 9 1 fun r1 =>
aI h r1 0 (0 : Int32) fun i12 =>
gR h (some a0) 9 0 fun r13 =>
rv h r13 14 (f_J6_hashCode G h r13 (fun i23 h22 =>
((i23 = (102456 : Int32) → rv h22 r13 14 (dI G Y_J6_equals cJ6_equals 3 [va_rf r13, .ref (g_k G 0)] h22 k n (fun i29 h28 k32 n33 =>
((i29 = 0 → V G E Y_X9_isWalked cX9_isWalked 5 (QM G E (kI K) X) h28 k32 n33 94 [(1, va_rf r_1), (2, .int i12), (4, .int (-1 : Int32))] []) ∧
(¬ (i29 = 0) → V G E Y_X9_isWalked cX9_isWalked 5 (QM G E (kI K) X) h28 k32 n33 94 [(1, va_rf r_1), (2, .int i12), (4, .int (0 : Int32))] []))) xN)) ∧
(i23 = (110124153 : Int32) → rv h22 r13 14 (dI G Y_J6_equals cJ6_equals 3 [va_rf r13, .ref (g_k G 2)] h22 k n (fun i39 h38 k42 n43 =>
((i39 = 0 → V G E Y_X9_isWalked cX9_isWalked 5 (QM G E (kI K) X) h38 k42 n43 94 [(1, va_rf r_1), (2, .int i12), (4, .int (-1 : Int32))] []) ∧
(¬ (i39 = 0) → V G E Y_X9_isWalked cX9_isWalked 5 (QM G E (kI K) X) h38 k42 n43 94 [(1, va_rf r_1), (2, .int i12), (4, .int (2 : Int32))] []))) xN)) ∧
(i23 = (112893259 : Int32) → rv h22 r13 14 (dI G Y_J6_equals cJ6_equals 3 [va_rf r13, .ref (g_k G 1)] h22 k n (fun i49 h48 k52 n53 =>
((i49 = 0 → V G E Y_X9_isWalked cX9_isWalked 5 (QM G E (kI K) X) h48 k52 n53 94 [(1, va_rf r_1), (2, .int i12), (4, .int (-1 : Int32))] []) ∧
(¬ (i49 = 0) → V G E Y_X9_isWalked cX9_isWalked 5 (QM G E (kI K) X) h48 k52 n53 94 [(1, va_rf r_1), (2, .int i12), (4, .int (1 : Int32))] []))) xN)) ∧
(¬ i23 = (102456 : Int32) → ¬ i23 = (110124153 : Int32) → ¬ i23 = (112893259 : Int32) → V G E Y_X9_isWalked cX9_isWalked 5 (QM G E (kI K) X) h22 k n 94 [(1, va_rf r_1), (2, .int i12), (4, .int (-1 : Int32))] []))))
theorem s_X9_isWalked_0 {G : Gt} {E : Ev} {h : Hp} {k0 n0 : Nat} {a0 : Nat} {r_1 : Option Nat} {K : Int32 → Hp → Prop} {X : Nat → Nat → Hp → Prop} (hG : Base G) (hA : 0 ≤ k0) (hB : 0 ≤ n0) (hf : g_X9_isWalked_0 G E h (k0 - 0) (n0 - 0) a0 r_1 K X) : V G E Y_X9_isWalked cX9_isWalked 5 (QM G E (kI K) X) h k0 n0 0 [(0, .ref a0), (1, va_rf r_1)] [] := by
  obtain ⟨k, hk9⟩ : ∃ z, z = k0 - 0 := ⟨_, rfl⟩
  obtain ⟨n, hn9⟩ : ∃ z, z = n0 - 0 := ⟨_, rfl⟩
  rw [← hk9, ← hn9] at hf
  refine V.weak (k' := k + 0) (n' := n + 0) ?_ (by omega) (by omega)
  unfold g_X9_isWalked_0 at hf
  refine v_aload_n (i := 0) dX9_isWalked_0 rfl rfl ?_
  replace hf := gR_e hf
  obtain ⟨w2, fs3, r1, hh4, hk5, hf⟩ := hf
  refine v_getf (T := TX9) (ci := 9) 1 dX9_isWalked_1 q2152 rfl in_X9 (Nat.le_of_ble_eq_true rfl) (Or.inl rfl) hh4 hk5 ?_
  refine v_iconst (v := 0) dX9_isWalked_4 (by decide) ?_
  obtain ⟨a6, rfl⟩ := aI_s hf
  replace hf := aI_e hf
  obtain ⟨w7, N8, f9, hh10, hi11, i12, ei12, hf⟩ := hf
  refine v_iald dX9_isWalked_5 hh10 hi11 ?_
  rw [← ei12]
  refine v_istore_n (i := 2) (lv' := [(0, .ref a0), (1, va_rf r_1), (2, .int i12)]) dX9_isWalked_6 rfl (Nat.le_of_ble_eq_true rfl) rfl rfl ?_
  refine v_aload_n (i := 0) dX9_isWalked_7 rfl rfl ?_
  replace hf := gR_e hf
  obtain ⟨w14, fs15, r13, hh16, hk17, hf⟩ := hf
  refine v_getf (T := TX9) (ci := 9) 0 dX9_isWalked_8 q2151 rfl in_X9 (Nat.le_of_ble_eq_true rfl) (Or.inl rfl) hh16 hk17 ?_
  refine v_qstore_n (i := 3) (r := r13) (lv' := [(0, .ref a0), (1, va_rf r_1), (2, .int i12), (3, va_rf r13)]) dX9_isWalked_11 rfl (Nat.le_of_ble_eq_true rfl) rfl rfl ?_
  refine v_iconst (v := -1) dX9_isWalked_12 (by decide) ?_
  refine v_istore (i := 4) (lv' := [(0, .ref a0), (1, va_rf r_1), (2, .int i12), (3, va_rf r13), (4, .int (-1 : Int32))]) dX9_isWalked_13 (Nat.le_of_ble_eq_true rfl) rfl rfl ?_
  refine v_qload_n (r := r13) (i := 3) dX9_isWalked_15 rfl rfl ?_
  obtain ⟨a18, rfl⟩ := rv_s hf
  replace hf := rv_e hf
  obtain ⟨w19, fs20, hh21, hf⟩ := hf
  refine V.addK0 ?_
  refine V.addN0 ?_
  refine v_callV (mc := 0) (ms := 0) 0 dX9_isWalked_16 (m_J6_hashCode hG hf) rfl hh21 rfl (lw_V q2187 q1003 q2872 q96 q1004) rfl (by decide +kernel) (by decide) rfl (cat_len (Nat.le_of_ble_eq_true rfl)) (kk_I fun i23 h22 hg => ?_) (fun _ _ _ hx => hx.elim)
  replace hf := hg
  clear hg
  by_cases e24_0 : i23 = (102456 : Int32)
  · replace hf := hf.1 e24_0
    refine v_lookup (off := 33) 52 dX9_isWalked_19 (by decide) (lk_at e24_0 (by decide)) (by decide) ?_
    refine v_qload_n (r := (some a18)) (i := 3) dX9_isWalked_52 rfl rfl ?_
    refine v_ldcS dX9_isWalked_53 (List.mem_of_getElem? (i := 9) rfl) ?_
    replace hf := rv_e hf
    obtain ⟨w25, fs26, hh27, hf⟩ := hf
    obtain ⟨mc30, ms31, hkmc30, hnms31, hM⟩ := hf
    refine V.weak (k' := ((k - mc30) + 0) + mc30) (n' := ((n - ms31) + 0) + ms31) ?_ (by omega) (by omega)
    refine v_callV 1 dX9_isWalked_55 hM rfl hh27 rfl (lw_V q2179 q1428 q2873 q96 q1429) rfl (by decide +kernel) (by decide) rfl (cat_len (Nat.le_of_ble_eq_true rfl)) (kk_I fun i29 h28 hg => ?_) (fun _ _ _ hx => hx.elim)
    have hf := hg
    clear hg
    refine v_if_eq 94 dX9_isWalked_58 (by decide) (fun c34 => ?_) (fun c34 => ?_)
    · replace hf := hf.1 c34
      refine V.lp (lv' := [(1, va_rf r_1), (2, .int i12), (4, .int (-1 : Int32))]) [1, 2, 4] rfl ?_
      exact V.weak hf (by omega) (by omega)
    · replace hf := hf.2 c34
      refine v_iconst (v := 0) dX9_isWalked_61 (by decide) ?_
      refine v_istore (i := 4) (lv' := [(0, .ref a0), (1, va_rf r_1), (2, .int i12), (3, va_rf (some a18)), (4, .int (0 : Int32))]) dX9_isWalked_62 (Nat.le_of_ble_eq_true rfl) rfl rfl ?_
      refine v_goto 94 dX9_isWalked_64 (by decide) ?_
      refine V.lp (lv' := [(1, va_rf r_1), (2, .int i12), (4, .int (0 : Int32))]) [1, 2, 4] rfl ?_
      exact V.weak hf (by omega) (by omega)
  by_cases e24_1 : i23 = (110124153 : Int32)
  · replace hf := hf.2.1 e24_1
    refine v_lookup (off := 63) 82 dX9_isWalked_19 (by decide) (lk_at e24_1 (by decide)) (by decide) ?_
    refine v_qload_n (r := (some a18)) (i := 3) dX9_isWalked_82 rfl rfl ?_
    refine v_ldcS dX9_isWalked_83 (List.mem_of_getElem? (i := 11) rfl) ?_
    replace hf := rv_e hf
    obtain ⟨w35, fs36, hh37, hf⟩ := hf
    obtain ⟨mc40, ms41, hkmc40, hnms41, hM⟩ := hf
    refine V.weak (k' := ((k - mc40) + 0) + mc40) (n' := ((n - ms41) + 0) + ms41) ?_ (by omega) (by omega)
    refine v_callV 1 dX9_isWalked_85 hM rfl hh37 rfl (lw_V q2179 q1428 q2873 q96 q1429) rfl (by decide +kernel) (by decide) rfl (cat_len (Nat.le_of_ble_eq_true rfl)) (kk_I fun i39 h38 hg => ?_) (fun _ _ _ hx => hx.elim)
    have hf := hg
    clear hg
    refine v_if_eq 94 dX9_isWalked_88 (by decide) (fun c44 => ?_) (fun c44 => ?_)
    · replace hf := hf.1 c44
      refine V.lp (lv' := [(1, va_rf r_1), (2, .int i12), (4, .int (-1 : Int32))]) [1, 2, 4] rfl ?_
      exact V.weak hf (by omega) (by omega)
    · replace hf := hf.2 c44
      refine v_iconst (v := 2) dX9_isWalked_91 (by decide) ?_
      refine v_istore (i := 4) (lv' := [(0, .ref a0), (1, va_rf r_1), (2, .int i12), (3, va_rf (some a18)), (4, .int (2 : Int32))]) dX9_isWalked_92 (Nat.le_of_ble_eq_true rfl) rfl rfl ?_
      refine V.lp (lv' := [(1, va_rf r_1), (2, .int i12), (4, .int (2 : Int32))]) [1, 2, 4] rfl ?_
      exact V.weak hf (by omega) (by omega)
  by_cases e24_2 : i23 = (112893259 : Int32)
  · replace hf := hf.2.2.1 e24_2
    refine v_lookup (off := 48) 67 dX9_isWalked_19 (by decide) (lk_at e24_2 (by decide)) (by decide) ?_
    refine v_qload_n (r := (some a18)) (i := 3) dX9_isWalked_67 rfl rfl ?_
    refine v_ldcS dX9_isWalked_68 (List.mem_of_getElem? (i := 10) rfl) ?_
    replace hf := rv_e hf
    obtain ⟨w45, fs46, hh47, hf⟩ := hf
    obtain ⟨mc50, ms51, hkmc50, hnms51, hM⟩ := hf
    refine V.weak (k' := ((k - mc50) + 0) + mc50) (n' := ((n - ms51) + 0) + ms51) ?_ (by omega) (by omega)
    refine v_callV 1 dX9_isWalked_70 hM rfl hh47 rfl (lw_V q2179 q1428 q2873 q96 q1429) rfl (by decide +kernel) (by decide) rfl (cat_len (Nat.le_of_ble_eq_true rfl)) (kk_I fun i49 h48 hg => ?_) (fun _ _ _ hx => hx.elim)
    have hf := hg
    clear hg
    refine v_if_eq 94 dX9_isWalked_73 (by decide) (fun c54 => ?_) (fun c54 => ?_)
    · replace hf := hf.1 c54
      refine V.lp (lv' := [(1, va_rf r_1), (2, .int i12), (4, .int (-1 : Int32))]) [1, 2, 4] rfl ?_
      exact V.weak hf (by omega) (by omega)
    · replace hf := hf.2 c54
      refine v_iconst (v := 1) dX9_isWalked_76 (by decide) ?_
      refine v_istore (i := 4) (lv' := [(0, .ref a0), (1, va_rf r_1), (2, .int i12), (3, va_rf (some a18)), (4, .int (1 : Int32))]) dX9_isWalked_77 (Nat.le_of_ble_eq_true rfl) rfl rfl ?_
      refine v_goto 94 dX9_isWalked_79 (by decide) ?_
      refine V.lp (lv' := [(1, va_rf r_1), (2, .int i12), (4, .int (1 : Int32))]) [1, 2, 4] rfl ?_
      exact V.weak hf (by omega) (by omega)
  replace hf := hf.2.2.2 e24_0 e24_1 e24_2
  refine v_lookup (off := 75) 94 dX9_isWalked_19 (by decide) (lk_no (List.forall_mem_cons.mpr ⟨lk_ne e24_0 (v := (102456 : Int32)) (by decide), (List.forall_mem_cons.mpr ⟨lk_ne e24_1 (v := (110124153 : Int32)) (by decide), (List.forall_mem_cons.mpr ⟨lk_ne e24_2 (v := (112893259 : Int32)) (by decide), (fun _ h => nomatch h)⟩)⟩)⟩)) (by decide) ?_
  refine V.lp (lv' := [(1, va_rf r_1), (2, .int i12), (4, .int (-1 : Int32))]) [1, 2, 4] rfl ?_
  exact V.weak hf (by omega) (by omega)
def g_X9_isWalked_94 (G : Gt) (E : Ev) (h : Hp) (k n : Nat) (r_1 : Option Nat) (i_2 : Int32) (i_4 : Int32) (K : Int32 → Hp → Prop) (X : Nat → Nat → Hp → Prop) : Prop :=
((i_4 = (0 : Int32) → rv h r_1 1 (f_X1_isDoor G h r_1 i_2 (fun i6 h5 =>
((i6 = 0 → K (0 : Int32) h5) ∧
(¬ (i6 = 0) → rv h5 r_1 1 (dI G Y_X1_goes cX1_goes 5 [va_rf r_1, .int i_2] h5 k n (fun i12 h11 k15 n16 =>
((i12 < 0 → K (0 : Int32) h11) ∧
(¬ (i12 < 0) → K (1 : Int32) h11))) X)))))) ∧
(i_4 = (1 : Int32) → f_X0_isIn G h i_2 (1 : Int32) (50 : Int32) (fun i19 h18 =>
((i19 = 0 → K (0 : Int32) h18) ∧
(¬ (i19 = 0) → rv h18 r_1 1 (dI G Y_X1_rests cX1_rests 2 [va_rf r_1, .int i_2] h18 k n (fun i26 h25 k29 n30 =>
((i26 < 0 → K (0 : Int32) h25) ∧
(¬ (i26 < 0) → K (1 : Int32) h25))) X))))) ∧
(i_4 = (2 : Int32) → f_X0_isColour G h i_2 (fun i33 h32 =>
((i33 = 0 → K (0 : Int32) h32) ∧
(¬ (i33 = 0) → rv h32 r_1 1 (f_X1_takes G h32 r_1 i_2 (fun i40 h39 =>
((i40 < 0 → K (0 : Int32) h39) ∧
(¬ (i40 < 0) → K (1 : Int32) h39))) X))))) ∧
(i_4.toInt < 0 ∨ 2 < i_4.toInt → rv h r_1 1 (f_X1_isDoor G h r_1 i_2 (fun i47 h46 =>
((i47 = 0 → K (0 : Int32) h46) ∧
(¬ (i47 = 0) → rv h46 r_1 1 (f_X1_opens G h46 r_1 i_2 (fun i53 h52 =>
((i53 < 0 → K (0 : Int32) h52) ∧
(¬ (i53 < 0) → K (1 : Int32) h52))) X)))))))
theorem s_X9_isWalked_94 {G : Gt} {E : Ev} {h : Hp} {k0 n0 : Nat} {r_1 : Option Nat} {i_2 : Int32} {i_4 : Int32} {K : Int32 → Hp → Prop} {X : Nat → Nat → Hp → Prop} (hG : Base G) (hA : 4 ≤ k0) (hB : 30 ≤ n0) (hf : g_X9_isWalked_94 G E h (k0 - 4) (n0 - 30) r_1 i_2 i_4 K X) : V G E Y_X9_isWalked cX9_isWalked 5 (QM G E (kI K) X) h k0 n0 94 [(1, va_rf r_1), (2, .int i_2), (4, .int i_4)] [] := by
  obtain ⟨k, hk9⟩ : ∃ z, z = k0 - 4 := ⟨_, rfl⟩
  obtain ⟨n, hn9⟩ : ∃ z, z = n0 - 30 := ⟨_, rfl⟩
  rw [← hk9, ← hn9] at hf
  refine V.weak (k' := k + 4) (n' := n + 30) ?_ (by omega) (by omega)
  unfold g_X9_isWalked_94 at hf
  refine v_iload (i := 4) dX9_isWalked_94 rfl ?_
  have hx : i_4.toInt = 0 ∨ i_4.toInt = 1 ∨ i_4.toInt = 2 ∨ (i_4.toInt < 0 ∨ 2 < i_4.toInt) := by omega
  rcases hx with hx | hx | hx | hx
  · have e9 : i_4 = (0 : Int32) := Int32.toInt_inj.mp hx
    replace hf := hf.1 e9
    refine v_tableAt (v := (0 : Int32)) (off := 28) 124 dX9_isWalked_96 e9 (by decide) (by decide) (by decide) (by decide) ?_
    refine v_qload_n (r := r_1) (i := 1) dX9_isWalked_124 rfl rfl ?_
    refine v_iload_n (i := 2) dX9_isWalked_125 rfl rfl ?_
    obtain ⟨a1, rfl⟩ := rv_s hf
    replace hf := rv_e hf
    obtain ⟨w2, fs3, hh4, hf⟩ := hf
    refine V.addK0 ?_
    refine V.addN0 ?_
    refine v_callV (mc := 0) (ms := 0) 1 dX9_isWalked_126 (m_X1_isDoor hG hf) rfl hh4 rfl (lw_V q2188 q1667 q1668 q89 q1669) rfl (by decide +kernel) (by decide) rfl (cat_len (Nat.le_of_ble_eq_true rfl)) (kk_I fun i6 h5 hg => ?_) (fun _ _ _ hx => hx.elim)
    replace hf := hg
    clear hg
    refine v_if_eq 144 dX9_isWalked_129 (by decide) (fun c7 => ?_) (fun c7 => ?_)
    · replace hf := hf.1 c7
      refine v_iconst (v := 0) dX9_isWalked_144 (by decide) ?_
      exact v_zret dX9_isWalked_145 rfl (by decide) ⟨_, rfl, hf⟩
    · replace hf := hf.2 c7
      refine v_qload_n (r := (some a1)) (i := 1) dX9_isWalked_132 rfl rfl ?_
      refine v_iload_n (i := 2) dX9_isWalked_133 rfl rfl ?_
      replace hf := rv_e hf
      obtain ⟨w8, fs9, hh10, hf⟩ := hf
      obtain ⟨mc13, ms14, hkmc13, hnms14, hM⟩ := hf
      refine V.weak (k' := ((k - mc13) + 0) + mc13) (n' := ((n - ms14) + 0) + ms14) ?_ (by omega) (by omega)
      refine v_callV 1 dX9_isWalked_134 hM rfl hh10 rfl (lw_V q2189 q1681 q1682 q89 q1683) rfl (by decide +kernel) (by decide) rfl (cat_len (Nat.le_of_ble_eq_true rfl)) (kk_I fun i12 h11 hg => ?_) (fun _ _ _ hx => vx_leave (by decide) hx)
      have hf := hg
      clear hg
      refine v_if_lt 144 dX9_isWalked_137 (by decide) (fun c17 => ?_) (fun c17 => ?_)
      · replace hf := hf.1 c17
        refine v_iconst (v := 0) dX9_isWalked_144 (by decide) ?_
        exact v_zret dX9_isWalked_145 rfl (by decide) ⟨_, rfl, hf⟩
      · replace hf := hf.2 c17
        refine v_iconst (v := 1) dX9_isWalked_140 (by decide) ?_
        refine v_goto 145 dX9_isWalked_141 (by decide) ?_
        exact v_zret dX9_isWalked_145 rfl (by decide) ⟨_, rfl, hf⟩
  · have e9 : i_4 = (1 : Int32) := Int32.toInt_inj.mp hx
    replace hf := hf.2.1 e9
    refine v_tableAt (v := (1 : Int32)) (off := 50) 146 dX9_isWalked_96 e9 (by decide) (by decide) (by decide) (by decide) ?_
    refine v_iload_n (i := 2) dX9_isWalked_146 rfl rfl ?_
    refine v_iconst (v := 1) dX9_isWalked_147 (by decide) ?_
    refine v_bipush (v := 50) dX9_isWalked_148 (by decide) ?_
    refine V.addK0 ?_
    refine V.addN0 ?_
    refine v_callSN (mc := 0) (ms := 0) 3 dX9_isWalked_150 (m_X0_isIn hG hf) rfl (lw_meth q308) q88 q2190 q307 rfl (by decide +kernel) (by decide) rfl (cat_len (Nat.le_of_ble_eq_true rfl)) (kk_I fun i19 h18 hg => ?_) (fun _ _ _ hx => hx.elim)
    replace hf := hg
    clear hg
    refine v_if_eq 168 dX9_isWalked_153 (by decide) (fun c20 => ?_) (fun c20 => ?_)
    · replace hf := hf.1 c20
      refine v_iconst (v := 0) dX9_isWalked_168 (by decide) ?_
      exact v_zret dX9_isWalked_169 rfl (by decide) ⟨_, rfl, hf⟩
    · replace hf := hf.2 c20
      refine v_qload_n (r := r_1) (i := 1) dX9_isWalked_156 rfl rfl ?_
      refine v_iload_n (i := 2) dX9_isWalked_157 rfl rfl ?_
      obtain ⟨a21, rfl⟩ := rv_s hf
      replace hf := rv_e hf
      obtain ⟨w22, fs23, hh24, hf⟩ := hf
      obtain ⟨mc27, ms28, hkmc27, hnms28, hM⟩ := hf
      refine V.weak (k' := ((k - mc27) + 0) + mc27) (n' := ((n - ms28) + 0) + ms28) ?_ (by omega) (by omega)
      refine v_callV 1 dX9_isWalked_158 hM rfl hh24 rfl (lw_V q2191 q1712 q1713 q89 q1714) rfl (by decide +kernel) (by decide) rfl (cat_len (Nat.le_of_ble_eq_true rfl)) (kk_I fun i26 h25 hg => ?_) (fun _ _ _ hx => vx_leave (by decide) hx)
      have hf := hg
      clear hg
      refine v_if_lt 168 dX9_isWalked_161 (by decide) (fun c31 => ?_) (fun c31 => ?_)
      · replace hf := hf.1 c31
        refine v_iconst (v := 0) dX9_isWalked_168 (by decide) ?_
        exact v_zret dX9_isWalked_169 rfl (by decide) ⟨_, rfl, hf⟩
      · replace hf := hf.2 c31
        refine v_iconst (v := 1) dX9_isWalked_164 (by decide) ?_
        refine v_goto 169 dX9_isWalked_165 (by decide) ?_
        exact v_zret dX9_isWalked_169 rfl (by decide) ⟨_, rfl, hf⟩
  · have e9 : i_4 = (2 : Int32) := Int32.toInt_inj.mp hx
    replace hf := hf.2.2.1 e9
    refine v_tableAt (v := (2 : Int32)) (off := 74) 170 dX9_isWalked_96 e9 (by decide) (by decide) (by decide) (by decide) ?_
    refine v_iload_n (i := 2) dX9_isWalked_170 rfl rfl ?_
    refine V.addK0 ?_
    refine V.addN0 ?_
    refine v_callSN (mc := 0) (ms := 0) 1 dX9_isWalked_171 (m_X0_isColour hG hf) rfl (lw_meth q651) q88 q2192 q650 rfl (by decide +kernel) (by decide) rfl (cat_len (Nat.le_of_ble_eq_true rfl)) (kk_I fun i33 h32 hg => ?_) (fun _ _ _ hx => hx.elim)
    replace hf := hg
    clear hg
    refine v_if_eq 189 dX9_isWalked_174 (by decide) (fun c34 => ?_) (fun c34 => ?_)
    · replace hf := hf.1 c34
      refine v_iconst (v := 0) dX9_isWalked_189 (by decide) ?_
      exact v_zret dX9_isWalked_190 rfl (by decide) ⟨_, rfl, hf⟩
    · replace hf := hf.2 c34
      refine v_qload_n (r := r_1) (i := 1) dX9_isWalked_177 rfl rfl ?_
      refine v_iload_n (i := 2) dX9_isWalked_178 rfl rfl ?_
      obtain ⟨a35, rfl⟩ := rv_s hf
      replace hf := rv_e hf
      obtain ⟨w36, fs37, hh38, hf⟩ := hf
      refine v_callV (mc := 3) (ms := 24) 1 dX9_isWalked_179 (m_X1_takes hG hf) rfl hh38 rfl (lw_V q2193 q1724 q1725 q89 q1726) rfl (by decide +kernel) (by decide) rfl (cat_len (Nat.le_of_ble_eq_true rfl)) (kk_I fun i40 h39 hg => ?_) (fun _ _ _ hx => vx_leave (by decide) hx)
      replace hf := hg
      clear hg
      refine v_if_lt 189 dX9_isWalked_182 (by decide) (fun c41 => ?_) (fun c41 => ?_)
      · replace hf := hf.1 c41
        refine v_iconst (v := 0) dX9_isWalked_189 (by decide) ?_
        exact v_zret dX9_isWalked_190 rfl (by decide) ⟨_, rfl, hf⟩
      · replace hf := hf.2 c41
        refine v_iconst (v := 1) dX9_isWalked_185 (by decide) ?_
        refine v_goto 190 dX9_isWalked_186 (by decide) ?_
        exact v_zret dX9_isWalked_190 rfl (by decide) ⟨_, rfl, hf⟩
  · replace hf := hf.2.2.2 hx
    refine v_tableOut 191 dX9_isWalked_96 hx (by decide) ?_
    refine v_qload_n (r := r_1) (i := 1) dX9_isWalked_191 rfl rfl ?_
    refine v_iload_n (i := 2) dX9_isWalked_192 rfl rfl ?_
    obtain ⟨a42, rfl⟩ := rv_s hf
    replace hf := rv_e hf
    obtain ⟨w43, fs44, hh45, hf⟩ := hf
    refine V.addK0 ?_
    refine V.addN0 ?_
    refine v_callV (mc := 0) (ms := 0) 1 dX9_isWalked_193 (m_X1_isDoor hG hf) rfl hh45 rfl (lw_V q2188 q1667 q1668 q89 q1669) rfl (by decide +kernel) (by decide) rfl (cat_len (Nat.le_of_ble_eq_true rfl)) (kk_I fun i47 h46 hg => ?_) (fun _ _ _ hx => hx.elim)
    replace hf := hg
    clear hg
    refine v_if_eq 211 dX9_isWalked_196 (by decide) (fun c48 => ?_) (fun c48 => ?_)
    · replace hf := hf.1 c48
      refine v_iconst (v := 0) dX9_isWalked_211 (by decide) ?_
      exact v_zret dX9_isWalked_212 rfl (by decide) ⟨_, rfl, hf⟩
    · replace hf := hf.2 c48
      refine v_qload_n (r := (some a42)) (i := 1) dX9_isWalked_199 rfl rfl ?_
      refine v_iload_n (i := 2) dX9_isWalked_200 rfl rfl ?_
      replace hf := rv_e hf
      obtain ⟨w49, fs50, hh51, hf⟩ := hf
      refine v_callV (mc := 4) (ms := 30) 1 dX9_isWalked_201 (m_X1_opens hG hf) rfl hh51 rfl (lw_V q2194 q1732 q1733 q89 q1734) rfl (by decide +kernel) (by decide) rfl (cat_len (Nat.le_of_ble_eq_true rfl)) (kk_I fun i53 h52 hg => ?_) (fun _ _ _ hx => vx_leave (by decide) hx)
      replace hf := hg
      clear hg
      refine v_if_lt 211 dX9_isWalked_204 (by decide) (fun c54 => ?_) (fun c54 => ?_)
      · replace hf := hf.1 c54
        refine v_iconst (v := 0) dX9_isWalked_211 (by decide) ?_
        exact v_zret dX9_isWalked_212 rfl (by decide) ⟨_, rfl, hf⟩
      · replace hf := hf.2 c54
        refine v_iconst (v := 1) dX9_isWalked_207 (by decide) ?_
        refine v_goto 212 dX9_isWalked_208 (by decide) ?_
        exact v_zret dX9_isWalked_212 rfl (by decide) ⟨_, rfl, hf⟩
theorem b_X9_isWalked {G : Gt} {h : Hp} {mc ms : Nat} {a0 : Nat} {r_1 : Option Nat} {K : Int32 → Hp → Prop} {X : Nat → Nat → Hp → Prop} (hG : Base G) (hf : ∀ E : Ev, V G E Y_X9_isWalked cX9_isWalked 5 (QM G E (kI K) X) h mc ms 0 [(0, .ref a0), (1, va_rf r_1)] []) : MM G Y_X9_isWalked cX9_isWalked 5 mc ms [.ref a0, va_rf r_1] h (kI K) X := mm_of hG (by decide +kernel) rfl (ac_c rfl (ac_c (rf_cat _) ac_nil)) (Nat.le_of_ble_eq_true rfl) (fun E _ _ => hf E)
abbrev Y_X0_isOil : Yt := (yX0_isOil, some (.boolean), 2, 62, [])
def f_X0_isOil (G : Gt) (h : Hp) (i_0 : Int32) (K : Int32 → Hp → Prop) : Prop :=
f_X0_isIn G h i_0 (0 : Int32) (50 : Int32) (fun i2 h1 =>
(narrow .boolean (.int i2) = .int i2 ∧ K i2 h1))
theorem m_X0_isOil {G : Gt} {h : Hp} {i_0 : Int32} {K : Int32 → Hp → Prop} (hG : Base G) (hf : f_X0_isOil G h i_0 K) : MM G Y_X0_isOil cX0_isOil 1 0 0 [.int i_0] h (kI K) xN := by
  refine mm_of hG (by decide +kernel) rfl (ac_c rfl ac_nil) (Nat.le_of_ble_eq_true rfl) (fun E _ _ => ?_)
  show V G E Y_X0_isOil cX0_isOil 1 (QM G E (kI K) xN) h 0 0 0 [(0, .int i_0)] []
  unfold f_X0_isOil at hf
  refine v_iload_n (i := 0) dX0_isOil_0 rfl rfl ?_
  refine v_iconst (v := 0) dX0_isOil_1 (by decide) ?_
  refine v_bipush (v := 50) dX0_isOil_2 (by decide) ?_
  refine V.addK0 ?_
  refine V.addN0 ?_
  refine v_callS (mc := 0) (ms := 0) 3 dX0_isOil_4 (m_X0_isIn hG hf) rfl (lw_S q306 q307 q88 q308) rfl (by decide +kernel) (by decide) rfl (cat_len (Nat.le_of_ble_eq_true rfl)) (kk_I fun i2 h1 hg => ?_) (fun _ _ _ hx => hx.elim)
  replace hf := hg
  clear hg
  exact v_zret dX0_isOil_7 rfl hf.1 ⟨_, rfl, hf.2⟩
abbrev Y_X0_isKind : Yt := (yX0_isKind, some (.boolean), 2, 62, [])
def f_X0_isKind (G : Gt) (h : Hp) (i_0 : Int32) (K : Int32 → Hp → Prop) : Prop :=
f_X0_isIn G h i_0 (0 : Int32) (2 : Int32) (fun i2 h1 =>
(narrow .boolean (.int i2) = .int i2 ∧ K i2 h1))
theorem m_X0_isKind {G : Gt} {h : Hp} {i_0 : Int32} {K : Int32 → Hp → Prop} (hG : Base G) (hf : f_X0_isKind G h i_0 K) : MM G Y_X0_isKind cX0_isKind 1 0 0 [.int i_0] h (kI K) xN := by
  refine mm_of hG (by decide +kernel) rfl (ac_c rfl ac_nil) (Nat.le_of_ble_eq_true rfl) (fun E _ _ => ?_)
  show V G E Y_X0_isKind cX0_isKind 1 (QM G E (kI K) xN) h 0 0 0 [(0, .int i_0)] []
  unfold f_X0_isKind at hf
  refine v_iload_n (i := 0) dX0_isKind_0 rfl rfl ?_
  refine v_iconst (v := 0) dX0_isKind_1 (by decide) ?_
  refine v_iconst (v := 2) dX0_isKind_2 (by decide) ?_
  refine V.addK0 ?_
  refine V.addN0 ?_
  refine v_callS (mc := 0) (ms := 0) 3 dX0_isKind_3 (m_X0_isIn hG hf) rfl (lw_S q306 q307 q88 q308) rfl (by decide +kernel) (by decide) rfl (cat_len (Nat.le_of_ble_eq_true rfl)) (kk_I fun i2 h1 hg => ?_) (fun _ _ _ hx => hx.elim)
  replace hf := hg
  clear hg
  exact v_zret dX0_isKind_6 rfl hf.1 ⟨_, rfl, hf.2⟩
abbrev Y_X0_isLock : Yt := (yX0_isLock, some (.boolean), 3, 82, [])
def f_X0_isLock (G : Gt) (h : Hp) (i_0 : Int32) (K : Int32 → Hp → Prop) : Prop :=
((i_0 = (-1 : Int32) → K (1 : Int32) h) ∧
(¬ (i_0 = (-1 : Int32)) → f_X0_isColour G h i_0 (fun i3 h2 =>
((i3 = 0 → K (0 : Int32) h2) ∧
(¬ (i3 = 0) → K (1 : Int32) h2)))))
theorem m_X0_isLock {G : Gt} {h : Hp} {i_0 : Int32} {K : Int32 → Hp → Prop} (hG : Base G) (hf : f_X0_isLock G h i_0 K) : MM G Y_X0_isLock cX0_isLock 1 0 0 [.int i_0] h (kI K) xN := by
  refine mm_of hG (by decide +kernel) rfl (ac_c rfl ac_nil) (Nat.le_of_ble_eq_true rfl) (fun E _ _ => ?_)
  show V G E Y_X0_isLock cX0_isLock 1 (QM G E (kI K) xN) h 0 0 0 [(0, .int i_0)] []
  unfold f_X0_isLock at hf
  refine v_iload_n (i := 0) dX0_isLock_0 rfl rfl ?_
  refine v_iconst (v := -1) dX0_isLock_1 (by decide) ?_
  refine v_icmp_eq 12 dX0_isLock_2 (by decide) (fun c1 => ?_) (fun c1 => ?_)
  · replace hf := hf.1 c1
    refine v_iconst (v := 1) dX0_isLock_12 (by decide) ?_
    refine v_goto 17 dX0_isLock_13 (by decide) ?_
    exact v_zret dX0_isLock_17 rfl (by decide) ⟨_, rfl, hf⟩
  · replace hf := hf.2 c1
    refine v_iload_n (i := 0) dX0_isLock_5 rfl rfl ?_
    refine V.addK0 ?_
    refine V.addN0 ?_
    refine v_callS (mc := 0) (ms := 0) 1 dX0_isLock_6 (m_X0_isColour hG hf) rfl (lw_S q649 q650 q88 q651) rfl (by decide +kernel) (by decide) rfl (cat_len (Nat.le_of_ble_eq_true rfl)) (kk_I fun i3 h2 hg => ?_) (fun _ _ _ hx => hx.elim)
    replace hf := hg
    clear hg
    refine v_if_eq 16 dX0_isLock_9 (by decide) (fun c4 => ?_) (fun c4 => ?_)
    · replace hf := hf.1 c4
      refine v_iconst (v := 0) dX0_isLock_16 (by decide) ?_
      exact v_zret dX0_isLock_17 rfl (by decide) ⟨_, rfl, hf⟩
    · replace hf := hf.2 c4
      refine v_iconst (v := 1) dX0_isLock_12 (by decide) ?_
      refine v_goto 17 dX0_isLock_13 (by decide) ?_
      exact v_zret dX0_isLock_17 rfl (by decide) ⟨_, rfl, hf⟩
abbrev Y_X9_isBuilt : Yt := (yX9_isBuilt, some (.boolean), 6, 157, [])
def g_X9_isBuilt_0 (G : Gt) (E : Ev) (h : Hp) (k n : Nat) (a0 : Nat) (r_1 : Option Nat) (K : Int32 → Hp → Prop) (X : Nat → Nat → Hp → Prop) : Prop :=
gR h (some a0) 9 1 fun r1 =>
aI h r1 0 (0 : Int32) fun i12 =>
gR h (some a0) 9 0 fun r13 =>
rv h r13 14 (f_J6_hashCode G h r13 (fun i23 h22 =>
((i23 = (3288481 : Int32) → rv h22 r13 14 (dI G Y_J6_equals cJ6_equals 3 [va_rf r13, .ref (g_k G 6)] h22 k n (fun i29 h28 k32 n33 =>
((i29 = 0 → V G E Y_X9_isBuilt cX9_isBuilt 6 (QM G E (kI K) X) h28 k32 n33 94 [(0, .ref a0), (1, va_rf r_1), (2, .int i12), (4, .int (-1 : Int32))] []) ∧
(¬ (i29 = 0) → V G E Y_X9_isBuilt cX9_isBuilt 6 (QM G E (kI K) X) h28 k32 n33 94 [(0, .ref a0), (1, va_rf r_1), (2, .int i12), (4, .int (2 : Int32))] []))) xN)) ∧
(i23 = (3411086 : Int32) → rv h22 r13 14 (dI G Y_J6_equals cJ6_equals 3 [va_rf r13, .ref (g_k G 4)] h22 k n (fun i39 h38 k42 n43 =>
((i39 = 0 → V G E Y_X9_isBuilt cX9_isBuilt 6 (QM G E (kI K) X) h38 k42 n43 94 [(0, .ref a0), (1, va_rf r_1), (2, .int i12), (4, .int (-1 : Int32))] []) ∧
(¬ (i39 = 0) → V G E Y_X9_isBuilt cX9_isBuilt 6 (QM G E (kI K) X) h38 k42 n43 94 [(0, .ref a0), (1, va_rf r_1), (2, .int i12), (4, .int (0 : Int32))] []))) xN)) ∧
(i23 = (108698277 : Int32) → rv h22 r13 14 (dI G Y_J6_equals cJ6_equals 3 [va_rf r13, .ref (g_k G 5)] h22 k n (fun i49 h48 k52 n53 =>
((i49 = 0 → V G E Y_X9_isBuilt cX9_isBuilt 6 (QM G E (kI K) X) h48 k52 n53 94 [(0, .ref a0), (1, va_rf r_1), (2, .int i12), (4, .int (-1 : Int32))] []) ∧
(¬ (i49 = 0) → V G E Y_X9_isBuilt cX9_isBuilt 6 (QM G E (kI K) X) h48 k52 n53 94 [(0, .ref a0), (1, va_rf r_1), (2, .int i12), (4, .int (1 : Int32))] []))) xN)) ∧
(¬ i23 = (3288481 : Int32) → ¬ i23 = (3411086 : Int32) → ¬ i23 = (108698277 : Int32) → V G E Y_X9_isBuilt cX9_isBuilt 6 (QM G E (kI K) X) h22 k n 94 [(0, .ref a0), (1, va_rf r_1), (2, .int i12), (4, .int (-1 : Int32))] []))))
theorem s_X9_isBuilt_0 {G : Gt} {E : Ev} {h : Hp} {k0 n0 : Nat} {a0 : Nat} {r_1 : Option Nat} {K : Int32 → Hp → Prop} {X : Nat → Nat → Hp → Prop} (hG : Base G) (hA : 0 ≤ k0) (hB : 0 ≤ n0) (hf : g_X9_isBuilt_0 G E h (k0 - 0) (n0 - 0) a0 r_1 K X) : V G E Y_X9_isBuilt cX9_isBuilt 6 (QM G E (kI K) X) h k0 n0 0 [(0, .ref a0), (1, va_rf r_1)] [] := by
  obtain ⟨k, hk9⟩ : ∃ z, z = k0 - 0 := ⟨_, rfl⟩
  obtain ⟨n, hn9⟩ : ∃ z, z = n0 - 0 := ⟨_, rfl⟩
  rw [← hk9, ← hn9] at hf
  refine V.weak (k' := k + 0) (n' := n + 0) ?_ (by omega) (by omega)
  unfold g_X9_isBuilt_0 at hf
  refine v_aload_n (i := 0) dX9_isBuilt_0 rfl rfl ?_
  replace hf := gR_e hf
  obtain ⟨w2, fs3, r1, hh4, hk5, hf⟩ := hf
  refine v_getf (T := TX9) (ci := 9) 1 dX9_isBuilt_1 q2152 rfl in_X9 (Nat.le_of_ble_eq_true rfl) (Or.inl rfl) hh4 hk5 ?_
  refine v_iconst (v := 0) dX9_isBuilt_4 (by decide) ?_
  obtain ⟨a6, rfl⟩ := aI_s hf
  replace hf := aI_e hf
  obtain ⟨w7, N8, f9, hh10, hi11, i12, ei12, hf⟩ := hf
  refine v_iald dX9_isBuilt_5 hh10 hi11 ?_
  rw [← ei12]
  refine v_istore_n (i := 2) (lv' := [(0, .ref a0), (1, va_rf r_1), (2, .int i12)]) dX9_isBuilt_6 rfl (Nat.le_of_ble_eq_true rfl) rfl rfl ?_
  refine v_aload_n (i := 0) dX9_isBuilt_7 rfl rfl ?_
  replace hf := gR_e hf
  obtain ⟨w14, fs15, r13, hh16, hk17, hf⟩ := hf
  refine v_getf (T := TX9) (ci := 9) 0 dX9_isBuilt_8 q2151 rfl in_X9 (Nat.le_of_ble_eq_true rfl) (Or.inl rfl) hh16 hk17 ?_
  refine v_qstore_n (i := 3) (r := r13) (lv' := [(0, .ref a0), (1, va_rf r_1), (2, .int i12), (3, va_rf r13)]) dX9_isBuilt_11 rfl (Nat.le_of_ble_eq_true rfl) rfl rfl ?_
  refine v_iconst (v := -1) dX9_isBuilt_12 (by decide) ?_
  refine v_istore (i := 4) (lv' := [(0, .ref a0), (1, va_rf r_1), (2, .int i12), (3, va_rf r13), (4, .int (-1 : Int32))]) dX9_isBuilt_13 (Nat.le_of_ble_eq_true rfl) rfl rfl ?_
  refine v_qload_n (r := r13) (i := 3) dX9_isBuilt_15 rfl rfl ?_
  obtain ⟨a18, rfl⟩ := rv_s hf
  replace hf := rv_e hf
  obtain ⟨w19, fs20, hh21, hf⟩ := hf
  refine V.addK0 ?_
  refine V.addN0 ?_
  refine v_callV (mc := 0) (ms := 0) 0 dX9_isBuilt_16 (m_J6_hashCode hG hf) rfl hh21 rfl (lw_V q2187 q1003 q2872 q96 q1004) rfl (by decide +kernel) (by decide) rfl (cat_len (Nat.le_of_ble_eq_true rfl)) (kk_I fun i23 h22 hg => ?_) (fun _ _ _ hx => hx.elim)
  replace hf := hg
  clear hg
  by_cases e24_0 : i23 = (3288481 : Int32)
  · replace hf := hf.1 e24_0
    refine v_lookup (off := 63) 82 dX9_isBuilt_19 (by decide) (lk_at e24_0 (by decide)) (by decide) ?_
    refine v_qload_n (r := (some a18)) (i := 3) dX9_isBuilt_82 rfl rfl ?_
    refine v_ldcS dX9_isBuilt_83 (List.mem_of_getElem? (i := 15) rfl) ?_
    replace hf := rv_e hf
    obtain ⟨w25, fs26, hh27, hf⟩ := hf
    obtain ⟨mc30, ms31, hkmc30, hnms31, hM⟩ := hf
    refine V.weak (k' := ((k - mc30) + 0) + mc30) (n' := ((n - ms31) + 0) + ms31) ?_ (by omega) (by omega)
    refine v_callV 1 dX9_isBuilt_85 hM rfl hh27 rfl (lw_V q2179 q1428 q2873 q96 q1429) rfl (by decide +kernel) (by decide) rfl (cat_len (Nat.le_of_ble_eq_true rfl)) (kk_I fun i29 h28 hg => ?_) (fun _ _ _ hx => hx.elim)
    have hf := hg
    clear hg
    refine v_if_eq 94 dX9_isBuilt_88 (by decide) (fun c34 => ?_) (fun c34 => ?_)
    · replace hf := hf.1 c34
      refine V.lp (lv' := [(0, .ref a0), (1, va_rf r_1), (2, .int i12), (4, .int (-1 : Int32))]) [0, 1, 2, 4] rfl ?_
      exact V.weak hf (by omega) (by omega)
    · replace hf := hf.2 c34
      refine v_iconst (v := 2) dX9_isBuilt_91 (by decide) ?_
      refine v_istore (i := 4) (lv' := [(0, .ref a0), (1, va_rf r_1), (2, .int i12), (3, va_rf (some a18)), (4, .int (2 : Int32))]) dX9_isBuilt_92 (Nat.le_of_ble_eq_true rfl) rfl rfl ?_
      refine V.lp (lv' := [(0, .ref a0), (1, va_rf r_1), (2, .int i12), (4, .int (2 : Int32))]) [0, 1, 2, 4] rfl ?_
      exact V.weak hf (by omega) (by omega)
  by_cases e24_1 : i23 = (3411086 : Int32)
  · replace hf := hf.2.1 e24_1
    refine v_lookup (off := 33) 52 dX9_isBuilt_19 (by decide) (lk_at e24_1 (by decide)) (by decide) ?_
    refine v_qload_n (r := (some a18)) (i := 3) dX9_isBuilt_52 rfl rfl ?_
    refine v_ldcS dX9_isBuilt_53 (List.mem_of_getElem? (i := 13) rfl) ?_
    replace hf := rv_e hf
    obtain ⟨w35, fs36, hh37, hf⟩ := hf
    obtain ⟨mc40, ms41, hkmc40, hnms41, hM⟩ := hf
    refine V.weak (k' := ((k - mc40) + 0) + mc40) (n' := ((n - ms41) + 0) + ms41) ?_ (by omega) (by omega)
    refine v_callV 1 dX9_isBuilt_55 hM rfl hh37 rfl (lw_V q2179 q1428 q2873 q96 q1429) rfl (by decide +kernel) (by decide) rfl (cat_len (Nat.le_of_ble_eq_true rfl)) (kk_I fun i39 h38 hg => ?_) (fun _ _ _ hx => hx.elim)
    have hf := hg
    clear hg
    refine v_if_eq 94 dX9_isBuilt_58 (by decide) (fun c44 => ?_) (fun c44 => ?_)
    · replace hf := hf.1 c44
      refine V.lp (lv' := [(0, .ref a0), (1, va_rf r_1), (2, .int i12), (4, .int (-1 : Int32))]) [0, 1, 2, 4] rfl ?_
      exact V.weak hf (by omega) (by omega)
    · replace hf := hf.2 c44
      refine v_iconst (v := 0) dX9_isBuilt_61 (by decide) ?_
      refine v_istore (i := 4) (lv' := [(0, .ref a0), (1, va_rf r_1), (2, .int i12), (3, va_rf (some a18)), (4, .int (0 : Int32))]) dX9_isBuilt_62 (Nat.le_of_ble_eq_true rfl) rfl rfl ?_
      refine v_goto 94 dX9_isBuilt_64 (by decide) ?_
      refine V.lp (lv' := [(0, .ref a0), (1, va_rf r_1), (2, .int i12), (4, .int (0 : Int32))]) [0, 1, 2, 4] rfl ?_
      exact V.weak hf (by omega) (by omega)
  by_cases e24_2 : i23 = (108698277 : Int32)
  · replace hf := hf.2.2.1 e24_2
    refine v_lookup (off := 48) 67 dX9_isBuilt_19 (by decide) (lk_at e24_2 (by decide)) (by decide) ?_
    refine v_qload_n (r := (some a18)) (i := 3) dX9_isBuilt_67 rfl rfl ?_
    refine v_ldcS dX9_isBuilt_68 (List.mem_of_getElem? (i := 14) rfl) ?_
    replace hf := rv_e hf
    obtain ⟨w45, fs46, hh47, hf⟩ := hf
    obtain ⟨mc50, ms51, hkmc50, hnms51, hM⟩ := hf
    refine V.weak (k' := ((k - mc50) + 0) + mc50) (n' := ((n - ms51) + 0) + ms51) ?_ (by omega) (by omega)
    refine v_callV 1 dX9_isBuilt_70 hM rfl hh47 rfl (lw_V q2179 q1428 q2873 q96 q1429) rfl (by decide +kernel) (by decide) rfl (cat_len (Nat.le_of_ble_eq_true rfl)) (kk_I fun i49 h48 hg => ?_) (fun _ _ _ hx => hx.elim)
    have hf := hg
    clear hg
    refine v_if_eq 94 dX9_isBuilt_73 (by decide) (fun c54 => ?_) (fun c54 => ?_)
    · replace hf := hf.1 c54
      refine V.lp (lv' := [(0, .ref a0), (1, va_rf r_1), (2, .int i12), (4, .int (-1 : Int32))]) [0, 1, 2, 4] rfl ?_
      exact V.weak hf (by omega) (by omega)
    · replace hf := hf.2 c54
      refine v_iconst (v := 1) dX9_isBuilt_76 (by decide) ?_
      refine v_istore (i := 4) (lv' := [(0, .ref a0), (1, va_rf r_1), (2, .int i12), (3, va_rf (some a18)), (4, .int (1 : Int32))]) dX9_isBuilt_77 (Nat.le_of_ble_eq_true rfl) rfl rfl ?_
      refine v_goto 94 dX9_isBuilt_79 (by decide) ?_
      refine V.lp (lv' := [(0, .ref a0), (1, va_rf r_1), (2, .int i12), (4, .int (1 : Int32))]) [0, 1, 2, 4] rfl ?_
      exact V.weak hf (by omega) (by omega)
  replace hf := hf.2.2.2 e24_0 e24_1 e24_2
  refine v_lookup (off := 75) 94 dX9_isBuilt_19 (by decide) (lk_no (List.forall_mem_cons.mpr ⟨lk_ne e24_0 (v := (3288481 : Int32)) (by decide), (List.forall_mem_cons.mpr ⟨lk_ne e24_1 (v := (3411086 : Int32)) (by decide), (List.forall_mem_cons.mpr ⟨lk_ne e24_2 (v := (108698277 : Int32)) (by decide), (fun _ h => nomatch h)⟩)⟩)⟩)) (by decide) ?_
  refine V.lp (lv' := [(0, .ref a0), (1, va_rf r_1), (2, .int i12), (4, .int (-1 : Int32))]) [0, 1, 2, 4] rfl ?_
  exact V.weak hf (by omega) (by omega)
def g_X9_isBuilt_94 (G : Gt) (E : Ev) (h : Hp) (k n : Nat) (a0 : Nat) (r_1 : Option Nat) (i_2 : Int32) (i_4 : Int32) (K : Int32 → Hp → Prop) (X : Nat → Nat → Hp → Prop) : Prop :=
((i_4 = (0 : Int32) → rv h r_1 1 (f_X1_isRoom G h r_1 i_2 (fun i6 h5 =>
((i6 = 0 → K (0 : Int32) h5) ∧
(¬ (i6 = 0) → gR h5 (some a0) 9 1 fun r8 =>
aI h5 r8 0 (1 : Int32) fun i19 =>
f_X0_isIn G h5 i19 (1 : Int32) (50 : Int32) (fun i21 h20 =>
((i21 = 0 → K (0 : Int32) h20) ∧
(¬ (i21 = 0) → gR h20 (some a0) 9 1 fun r23 =>
aI h20 r23 0 (1 : Int32) fun i34 =>
rv h20 r_1 1 (f_X1_oils G h20 r_1 i_2 i34 (fun i39 h38 =>
((i39 < 0 → K (0 : Int32) h38) ∧
(¬ (i39 < 0) → K (1 : Int32) h38))) X))))))))) ∧
(i_4 = (1 : Int32) → f_X0_isOil G h i_2 (fun i42 h41 =>
((i42 = 0 → K (0 : Int32) h41) ∧
(¬ (i42 = 0) → rv h41 r_1 1 (f_X1_adds G h41 r_1 i_2 (fun i49 h48 =>
((i49 < 0 → K (0 : Int32) h48) ∧
(¬ (i49 < 0) → K (1 : Int32) h48))) X))))) ∧
(i_4 = (2 : Int32) → rv h r_1 1 (f_X1_isRoom G h r_1 i_2 (fun i56 h55 =>
((i56 = 0 → K (0 : Int32) h55) ∧
(¬ (i56 = 0) → gR h55 (some a0) 9 1 fun r58 =>
aI h55 r58 0 (1 : Int32) fun i69 =>
f_X0_isColour G h55 i69 (fun i71 h70 =>
((i71 = 0 → K (0 : Int32) h70) ∧
(¬ (i71 = 0) → gR h70 (some a0) 9 1 fun r73 =>
aI h70 r73 0 (1 : Int32) fun i84 =>
rv h70 r_1 1 (f_X1_lays G h70 r_1 i_2 i84 (fun i89 h88 =>
((i89 < 0 → K (0 : Int32) h88) ∧
(¬ (i89 < 0) → K (1 : Int32) h88))) X))))))))) ∧
(i_4.toInt < 0 ∨ 2 < i_4.toInt → gR h (some a0) 9 1 fun r91 =>
aI h r91 0 (1 : Int32) fun i102 =>
rv h r_1 1 (f_X1_areRooms G h r_1 i_2 i102 (fun i108 h107 =>
((i108 = 0 → (((0 : Int32) = 0 → K (0 : Int32) h107) ∧
(¬ ((0 : Int32) = 0) → gR h107 (some a0) 9 1 fun r111 =>
aI h107 r111 0 (1 : Int32) fun i122 =>
gR h107 (some a0) 9 1 fun r123 =>
aI h107 r123 0 (2 : Int32) fun i134 =>
gR h107 (some a0) 9 1 fun r135 =>
aI h107 r135 0 (3 : Int32) fun i146 =>
rv h107 r_1 1 (dI G Y_X1_builds cX1_builds 6 [va_rf r_1, .int i_2, .int i122, .int i134, .int i146] h107 k n (fun i151 h150 k154 n155 =>
((i151 < 0 → K (0 : Int32) h150) ∧
(¬ (i151 < 0) → K (1 : Int32) h150))) X)))) ∧
(¬ (i108 = 0) → gR h107 (some a0) 9 1 fun r157 =>
aI h107 r157 0 (2 : Int32) fun i168 =>
f_X0_isKind G h107 i168 (fun i170 h169 =>
((i170 = 0 → (((0 : Int32) = 0 → K (0 : Int32) h169) ∧
(¬ ((0 : Int32) = 0) → gR h169 (some a0) 9 1 fun r173 =>
aI h169 r173 0 (1 : Int32) fun i184 =>
gR h169 (some a0) 9 1 fun r185 =>
aI h169 r185 0 (2 : Int32) fun i196 =>
gR h169 (some a0) 9 1 fun r197 =>
aI h169 r197 0 (3 : Int32) fun i208 =>
rv h169 r_1 1 (dI G Y_X1_builds cX1_builds 6 [va_rf r_1, .int i_2, .int i184, .int i196, .int i208] h169 k n (fun i213 h212 k216 n217 =>
((i213 < 0 → K (0 : Int32) h212) ∧
(¬ (i213 < 0) → K (1 : Int32) h212))) X)))) ∧
(¬ (i170 = 0) → gR h169 (some a0) 9 1 fun r219 =>
aI h169 r219 0 (3 : Int32) fun i230 =>
f_X0_isLock G h169 i230 (fun i232 h231 =>
((i232 = 0 → (((0 : Int32) = 0 → K (0 : Int32) h231) ∧
(¬ ((0 : Int32) = 0) → gR h231 (some a0) 9 1 fun r235 =>
aI h231 r235 0 (1 : Int32) fun i246 =>
gR h231 (some a0) 9 1 fun r247 =>
aI h231 r247 0 (2 : Int32) fun i258 =>
gR h231 (some a0) 9 1 fun r259 =>
aI h231 r259 0 (3 : Int32) fun i270 =>
rv h231 r_1 1 (dI G Y_X1_builds cX1_builds 6 [va_rf r_1, .int i_2, .int i246, .int i258, .int i270] h231 k n (fun i275 h274 k278 n279 =>
((i275 < 0 → K (0 : Int32) h274) ∧
(¬ (i275 < 0) → K (1 : Int32) h274))) X)))) ∧
(¬ (i232 = 0) → (((1 : Int32) = 0 → K (0 : Int32) h231) ∧
(¬ ((1 : Int32) = 0) → gR h231 (some a0) 9 1 fun r282 =>
aI h231 r282 0 (1 : Int32) fun i293 =>
gR h231 (some a0) 9 1 fun r294 =>
aI h231 r294 0 (2 : Int32) fun i305 =>
gR h231 (some a0) 9 1 fun r306 =>
aI h231 r306 0 (3 : Int32) fun i317 =>
rv h231 r_1 1 (dI G Y_X1_builds cX1_builds 6 [va_rf r_1, .int i_2, .int i293, .int i305, .int i317] h231 k n (fun i322 h321 k325 n326 =>
((i322 < 0 → K (0 : Int32) h321) ∧
(¬ (i322 < 0) → K (1 : Int32) h321))) X)))))))))))))))
theorem s_X9_isBuilt_94 {G : Gt} {E : Ev} {h : Hp} {k0 n0 : Nat} {a0 : Nat} {r_1 : Option Nat} {i_2 : Int32} {i_4 : Int32} {K : Int32 → Hp → Prop} {X : Nat → Nat → Hp → Prop} (hG : Base G) (hA : 3 ≤ k0) (hB : 13 ≤ n0) (hf : g_X9_isBuilt_94 G E h (k0 - 3) (n0 - 13) a0 r_1 i_2 i_4 K X) : V G E Y_X9_isBuilt cX9_isBuilt 6 (QM G E (kI K) X) h k0 n0 94 [(0, .ref a0), (1, va_rf r_1), (2, .int i_2), (4, .int i_4)] [] := by
  obtain ⟨k, hk9⟩ : ∃ z, z = k0 - 3 := ⟨_, rfl⟩
  obtain ⟨n, hn9⟩ : ∃ z, z = n0 - 13 := ⟨_, rfl⟩
  rw [← hk9, ← hn9] at hf
  refine V.weak (k' := k + 3) (n' := n + 13) ?_ (by omega) (by omega)
  unfold g_X9_isBuilt_94 at hf
  refine v_iload (i := 4) dX9_isBuilt_94 rfl ?_
  have hx : i_4.toInt = 0 ∨ i_4.toInt = 1 ∨ i_4.toInt = 2 ∨ (i_4.toInt < 0 ∨ 2 < i_4.toInt) := by omega
  rcases hx with hx | hx | hx | hx
  · have e9 : i_4 = (0 : Int32) := Int32.toInt_inj.mp hx
    replace hf := hf.1 e9
    refine v_tableAt (v := (0 : Int32)) (off := 28) 124 dX9_isBuilt_96 e9 (by decide) (by decide) (by decide) (by decide) ?_
    refine v_qload_n (r := r_1) (i := 1) dX9_isBuilt_124 rfl rfl ?_
    refine v_iload_n (i := 2) dX9_isBuilt_125 rfl rfl ?_
    obtain ⟨a1, rfl⟩ := rv_s hf
    replace hf := rv_e hf
    obtain ⟨w2, fs3, hh4, hf⟩ := hf
    refine V.addK0 ?_
    refine V.addN0 ?_
    refine v_callV (mc := 0) (ms := 0) 1 dX9_isBuilt_126 (m_X1_isRoom hG hf) rfl hh4 rfl (lw_V q2202 q639 q640 q89 q641) rfl (by decide +kernel) (by decide) rfl (cat_len (Nat.le_of_ble_eq_true rfl)) (kk_I fun i6 h5 hg => ?_) (fun _ _ _ hx => hx.elim)
    replace hf := hg
    clear hg
    refine v_if_eq 165 dX9_isBuilt_129 (by decide) (fun c7 => ?_) (fun c7 => ?_)
    · replace hf := hf.1 c7
      refine v_iconst (v := 0) dX9_isBuilt_165 (by decide) ?_
      exact v_zret dX9_isBuilt_166 rfl (by decide) ⟨_, rfl, hf⟩
    · replace hf := hf.2 c7
      refine v_aload_n (i := 0) dX9_isBuilt_132 rfl rfl ?_
      replace hf := gR_e hf
      obtain ⟨w9, fs10, r8, hh11, hk12, hf⟩ := hf
      refine v_getf (T := TX9) (ci := 9) 1 dX9_isBuilt_133 q2152 rfl in_X9 (Nat.le_of_ble_eq_true rfl) (Or.inl rfl) hh11 hk12 ?_
      refine v_iconst (v := 1) dX9_isBuilt_136 (by decide) ?_
      obtain ⟨a13, rfl⟩ := aI_s hf
      replace hf := aI_e hf
      obtain ⟨w14, N15, f16, hh17, hi18, i19, ei19, hf⟩ := hf
      refine v_iald dX9_isBuilt_137 hh17 hi18 ?_
      rw [← ei19]
      refine v_iconst (v := 1) dX9_isBuilt_138 (by decide) ?_
      refine v_bipush (v := 50) dX9_isBuilt_139 (by decide) ?_
      refine V.addK0 ?_
      refine V.addN0 ?_
      refine v_callSN (mc := 0) (ms := 0) 3 dX9_isBuilt_141 (m_X0_isIn hG hf) rfl (lw_meth q308) q88 q2190 q307 rfl (by decide +kernel) (by decide) rfl (cat_len (Nat.le_of_ble_eq_true rfl)) (kk_I fun i21 h20 hg => ?_) (fun _ _ _ hx => hx.elim)
      replace hf := hg
      clear hg
      refine v_if_eq 165 dX9_isBuilt_144 (by decide) (fun c22 => ?_) (fun c22 => ?_)
      · replace hf := hf.1 c22
        refine v_iconst (v := 0) dX9_isBuilt_165 (by decide) ?_
        exact v_zret dX9_isBuilt_166 rfl (by decide) ⟨_, rfl, hf⟩
      · replace hf := hf.2 c22
        refine v_qload_n (r := (some a1)) (i := 1) dX9_isBuilt_147 rfl rfl ?_
        refine v_iload_n (i := 2) dX9_isBuilt_148 rfl rfl ?_
        refine v_aload_n (i := 0) dX9_isBuilt_149 rfl rfl ?_
        replace hf := gR_e hf
        obtain ⟨w24, fs25, r23, hh26, hk27, hf⟩ := hf
        refine v_getf (T := TX9) (ci := 9) 1 dX9_isBuilt_150 q2152 rfl in_X9 (Nat.le_of_ble_eq_true rfl) (Or.inl rfl) hh26 hk27 ?_
        refine v_iconst (v := 1) dX9_isBuilt_153 (by decide) ?_
        obtain ⟨a28, rfl⟩ := aI_s hf
        replace hf := aI_e hf
        obtain ⟨w29, N30, f31, hh32, hi33, i34, ei34, hf⟩ := hf
        refine v_iald dX9_isBuilt_154 hh32 hi33 ?_
        rw [← ei34]
        replace hf := rv_e hf
        obtain ⟨w35, fs36, hh37, hf⟩ := hf
        refine v_callV (mc := 1) (ms := 8) 2 dX9_isBuilt_155 (m_X1_oils hG hf) rfl hh37 rfl (lw_V q2203 q729 q730 q89 q731) rfl (by decide +kernel) (by decide) rfl (cat_len (Nat.le_of_ble_eq_true rfl)) (kk_I fun i39 h38 hg => ?_) (fun _ _ _ hx => vx_leave (by decide) hx)
        replace hf := hg
        clear hg
        refine v_if_lt 165 dX9_isBuilt_158 (by decide) (fun c40 => ?_) (fun c40 => ?_)
        · replace hf := hf.1 c40
          refine v_iconst (v := 0) dX9_isBuilt_165 (by decide) ?_
          exact v_zret dX9_isBuilt_166 rfl (by decide) ⟨_, rfl, hf⟩
        · replace hf := hf.2 c40
          refine v_iconst (v := 1) dX9_isBuilt_161 (by decide) ?_
          refine v_goto 166 dX9_isBuilt_162 (by decide) ?_
          exact v_zret dX9_isBuilt_166 rfl (by decide) ⟨_, rfl, hf⟩
  · have e9 : i_4 = (1 : Int32) := Int32.toInt_inj.mp hx
    replace hf := hf.2.1 e9
    refine v_tableAt (v := (1 : Int32)) (off := 71) 167 dX9_isBuilt_96 e9 (by decide) (by decide) (by decide) (by decide) ?_
    refine v_iload_n (i := 2) dX9_isBuilt_167 rfl rfl ?_
    refine V.addK0 ?_
    refine V.addN0 ?_
    refine v_callSN (mc := 0) (ms := 0) 1 dX9_isBuilt_168 (m_X0_isOil hG hf) rfl (lw_meth q305) q88 q2204 q304 rfl (by decide +kernel) (by decide) rfl (cat_len (Nat.le_of_ble_eq_true rfl)) (kk_I fun i42 h41 hg => ?_) (fun _ _ _ hx => hx.elim)
    replace hf := hg
    clear hg
    refine v_if_eq 186 dX9_isBuilt_171 (by decide) (fun c43 => ?_) (fun c43 => ?_)
    · replace hf := hf.1 c43
      refine v_iconst (v := 0) dX9_isBuilt_186 (by decide) ?_
      exact v_zret dX9_isBuilt_187 rfl (by decide) ⟨_, rfl, hf⟩
    · replace hf := hf.2 c43
      refine v_qload_n (r := r_1) (i := 1) dX9_isBuilt_174 rfl rfl ?_
      refine v_iload_n (i := 2) dX9_isBuilt_175 rfl rfl ?_
      obtain ⟨a44, rfl⟩ := rv_s hf
      replace hf := rv_e hf
      obtain ⟨w45, fs46, hh47, hf⟩ := hf
      refine v_callV (mc := 3) (ms := 13) 1 dX9_isBuilt_176 (m_X1_adds hG hf) rfl hh47 rfl (lw_V q2205 q501 q502 q89 q503) rfl (by decide +kernel) (by decide) rfl (cat_len (Nat.le_of_ble_eq_true rfl)) (kk_I fun i49 h48 hg => ?_) (fun _ _ _ hx => vx_leave (by decide) hx)
      replace hf := hg
      clear hg
      refine v_if_lt 186 dX9_isBuilt_179 (by decide) (fun c50 => ?_) (fun c50 => ?_)
      · replace hf := hf.1 c50
        refine v_iconst (v := 0) dX9_isBuilt_186 (by decide) ?_
        exact v_zret dX9_isBuilt_187 rfl (by decide) ⟨_, rfl, hf⟩
      · replace hf := hf.2 c50
        refine v_iconst (v := 1) dX9_isBuilt_182 (by decide) ?_
        refine v_goto 187 dX9_isBuilt_183 (by decide) ?_
        exact v_zret dX9_isBuilt_187 rfl (by decide) ⟨_, rfl, hf⟩
  · have e9 : i_4 = (2 : Int32) := Int32.toInt_inj.mp hx
    replace hf := hf.2.2.1 e9
    refine v_tableAt (v := (2 : Int32)) (off := 92) 188 dX9_isBuilt_96 e9 (by decide) (by decide) (by decide) (by decide) ?_
    refine v_qload_n (r := r_1) (i := 1) dX9_isBuilt_188 rfl rfl ?_
    refine v_iload_n (i := 2) dX9_isBuilt_189 rfl rfl ?_
    obtain ⟨a51, rfl⟩ := rv_s hf
    replace hf := rv_e hf
    obtain ⟨w52, fs53, hh54, hf⟩ := hf
    refine V.addK0 ?_
    refine V.addN0 ?_
    refine v_callV (mc := 0) (ms := 0) 1 dX9_isBuilt_190 (m_X1_isRoom hG hf) rfl hh54 rfl (lw_V q2202 q639 q640 q89 q641) rfl (by decide +kernel) (by decide) rfl (cat_len (Nat.le_of_ble_eq_true rfl)) (kk_I fun i56 h55 hg => ?_) (fun _ _ _ hx => hx.elim)
    replace hf := hg
    clear hg
    refine v_if_eq 226 dX9_isBuilt_193 (by decide) (fun c57 => ?_) (fun c57 => ?_)
    · replace hf := hf.1 c57
      refine v_iconst (v := 0) dX9_isBuilt_226 (by decide) ?_
      exact v_zret dX9_isBuilt_227 rfl (by decide) ⟨_, rfl, hf⟩
    · replace hf := hf.2 c57
      refine v_aload_n (i := 0) dX9_isBuilt_196 rfl rfl ?_
      replace hf := gR_e hf
      obtain ⟨w59, fs60, r58, hh61, hk62, hf⟩ := hf
      refine v_getf (T := TX9) (ci := 9) 1 dX9_isBuilt_197 q2152 rfl in_X9 (Nat.le_of_ble_eq_true rfl) (Or.inl rfl) hh61 hk62 ?_
      refine v_iconst (v := 1) dX9_isBuilt_200 (by decide) ?_
      obtain ⟨a63, rfl⟩ := aI_s hf
      replace hf := aI_e hf
      obtain ⟨w64, N65, f66, hh67, hi68, i69, ei69, hf⟩ := hf
      refine v_iald dX9_isBuilt_201 hh67 hi68 ?_
      rw [← ei69]
      refine V.addK0 ?_
      refine V.addN0 ?_
      refine v_callSN (mc := 0) (ms := 0) 1 dX9_isBuilt_202 (m_X0_isColour hG hf) rfl (lw_meth q651) q88 q2192 q650 rfl (by decide +kernel) (by decide) rfl (cat_len (Nat.le_of_ble_eq_true rfl)) (kk_I fun i71 h70 hg => ?_) (fun _ _ _ hx => hx.elim)
      replace hf := hg
      clear hg
      refine v_if_eq 226 dX9_isBuilt_205 (by decide) (fun c72 => ?_) (fun c72 => ?_)
      · replace hf := hf.1 c72
        refine v_iconst (v := 0) dX9_isBuilt_226 (by decide) ?_
        exact v_zret dX9_isBuilt_227 rfl (by decide) ⟨_, rfl, hf⟩
      · replace hf := hf.2 c72
        refine v_qload_n (r := (some a51)) (i := 1) dX9_isBuilt_208 rfl rfl ?_
        refine v_iload_n (i := 2) dX9_isBuilt_209 rfl rfl ?_
        refine v_aload_n (i := 0) dX9_isBuilt_210 rfl rfl ?_
        replace hf := gR_e hf
        obtain ⟨w74, fs75, r73, hh76, hk77, hf⟩ := hf
        refine v_getf (T := TX9) (ci := 9) 1 dX9_isBuilt_211 q2152 rfl in_X9 (Nat.le_of_ble_eq_true rfl) (Or.inl rfl) hh76 hk77 ?_
        refine v_iconst (v := 1) dX9_isBuilt_214 (by decide) ?_
        obtain ⟨a78, rfl⟩ := aI_s hf
        replace hf := aI_e hf
        obtain ⟨w79, N80, f81, hh82, hi83, i84, ei84, hf⟩ := hf
        refine v_iald dX9_isBuilt_215 hh82 hi83 ?_
        rw [← ei84]
        replace hf := rv_e hf
        obtain ⟨w85, fs86, hh87, hf⟩ := hf
        refine v_callV (mc := 1) (ms := 8) 2 dX9_isBuilt_216 (m_X1_lays hG hf) rfl hh87 rfl (lw_V q2206 q721 q722 q89 q723) rfl (by decide +kernel) (by decide) rfl (cat_len (Nat.le_of_ble_eq_true rfl)) (kk_I fun i89 h88 hg => ?_) (fun _ _ _ hx => vx_leave (by decide) hx)
        replace hf := hg
        clear hg
        refine v_if_lt 226 dX9_isBuilt_219 (by decide) (fun c90 => ?_) (fun c90 => ?_)
        · replace hf := hf.1 c90
          refine v_iconst (v := 0) dX9_isBuilt_226 (by decide) ?_
          exact v_zret dX9_isBuilt_227 rfl (by decide) ⟨_, rfl, hf⟩
        · replace hf := hf.2 c90
          refine v_iconst (v := 1) dX9_isBuilt_222 (by decide) ?_
          refine v_goto 227 dX9_isBuilt_223 (by decide) ?_
          exact v_zret dX9_isBuilt_227 rfl (by decide) ⟨_, rfl, hf⟩
  · replace hf := hf.2.2.2 hx
    refine v_tableOut 228 dX9_isBuilt_96 hx (by decide) ?_
    refine v_qload_n (r := r_1) (i := 1) dX9_isBuilt_228 rfl rfl ?_
    refine v_iload_n (i := 2) dX9_isBuilt_229 rfl rfl ?_
    refine v_aload_n (i := 0) dX9_isBuilt_230 rfl rfl ?_
    replace hf := gR_e hf
    obtain ⟨w92, fs93, r91, hh94, hk95, hf⟩ := hf
    refine v_getf (T := TX9) (ci := 9) 1 dX9_isBuilt_231 q2152 rfl in_X9 (Nat.le_of_ble_eq_true rfl) (Or.inl rfl) hh94 hk95 ?_
    refine v_iconst (v := 1) dX9_isBuilt_234 (by decide) ?_
    obtain ⟨a96, rfl⟩ := aI_s hf
    replace hf := aI_e hf
    obtain ⟨w97, N98, f99, hh100, hi101, i102, ei102, hf⟩ := hf
    refine v_iald dX9_isBuilt_235 hh100 hi101 ?_
    rw [← ei102]
    obtain ⟨a103, rfl⟩ := rv_s hf
    replace hf := rv_e hf
    obtain ⟨w104, fs105, hh106, hf⟩ := hf
    refine V.addK0 ?_
    refine V.addN0 ?_
    refine v_callV (mc := 0) (ms := 0) 2 dX9_isBuilt_236 (m_X1_areRooms hG hf) rfl hh106 rfl (lw_V q2207 q635 q636 q89 q637) rfl (by decide +kernel) (by decide) rfl (cat_len (Nat.le_of_ble_eq_true rfl)) (kk_I fun i108 h107 hg => ?_) (fun _ _ _ hx => hx.elim)
    replace hf := hg
    clear hg
    refine v_if_eq 270 dX9_isBuilt_239 (by decide) (fun c109 => ?_) (fun c109 => ?_)
    · replace hf := hf.1 c109
      refine v_iconst (v := 0) dX9_isBuilt_270 (by decide) ?_
      refine v_istore (i := 5) (lv' := [(0, .ref a0), (1, va_rf (some a103)), (2, .int i_2), (4, .int i_4), (5, .int (0 : Int32))]) dX9_isBuilt_271 (Nat.le_of_ble_eq_true rfl) rfl rfl ?_
      refine v_iload (i := 5) dX9_isBuilt_273 rfl ?_
      refine v_if_eq 308 dX9_isBuilt_275 (by decide) (fun c110 => ?_) (fun c110 => ?_)
      · replace hf := hf.1 c110
        refine v_iconst (v := 0) dX9_isBuilt_308 (by decide) ?_
        exact v_zret dX9_isBuilt_309 rfl (by decide) ⟨_, rfl, hf⟩
      · replace hf := hf.2 c110
        refine v_qload_n (r := (some a103)) (i := 1) dX9_isBuilt_278 rfl rfl ?_
        refine v_iload_n (i := 2) dX9_isBuilt_279 rfl rfl ?_
        refine v_aload_n (i := 0) dX9_isBuilt_280 rfl rfl ?_
        replace hf := gR_e hf
        obtain ⟨w112, fs113, r111, hh114, hk115, hf⟩ := hf
        refine v_getf (T := TX9) (ci := 9) 1 dX9_isBuilt_281 q2152 rfl in_X9 (Nat.le_of_ble_eq_true rfl) (Or.inl rfl) hh114 hk115 ?_
        refine v_iconst (v := 1) dX9_isBuilt_284 (by decide) ?_
        obtain ⟨a116, rfl⟩ := aI_s hf
        replace hf := aI_e hf
        obtain ⟨w117, N118, f119, hh120, hi121, i122, ei122, hf⟩ := hf
        refine v_iald dX9_isBuilt_285 hh120 hi121 ?_
        rw [← ei122]
        refine v_aload_n (i := 0) dX9_isBuilt_286 rfl rfl ?_
        replace hf := gR_e hf
        obtain ⟨w124, fs125, r123, hh126, hk127, hf⟩ := hf
        refine v_getf (T := TX9) (ci := 9) 1 dX9_isBuilt_287 q2152 rfl in_X9 (Nat.le_of_ble_eq_true rfl) (Or.inl rfl) hh126 hk127 ?_
        refine v_iconst (v := 2) dX9_isBuilt_290 (by decide) ?_
        obtain ⟨a128, rfl⟩ := aI_s hf
        replace hf := aI_e hf
        obtain ⟨w129, N130, f131, hh132, hi133, i134, ei134, hf⟩ := hf
        refine v_iald dX9_isBuilt_291 hh132 hi133 ?_
        rw [← ei134]
        refine v_aload_n (i := 0) dX9_isBuilt_292 rfl rfl ?_
        replace hf := gR_e hf
        obtain ⟨w136, fs137, r135, hh138, hk139, hf⟩ := hf
        refine v_getf (T := TX9) (ci := 9) 1 dX9_isBuilt_293 q2152 rfl in_X9 (Nat.le_of_ble_eq_true rfl) (Or.inl rfl) hh138 hk139 ?_
        refine v_iconst (v := 3) dX9_isBuilt_296 (by decide) ?_
        obtain ⟨a140, rfl⟩ := aI_s hf
        replace hf := aI_e hf
        obtain ⟨w141, N142, f143, hh144, hi145, i146, ei146, hf⟩ := hf
        refine v_iald dX9_isBuilt_297 hh144 hi145 ?_
        rw [← ei146]
        replace hf := rv_e hf
        obtain ⟨w147, fs148, hh149, hf⟩ := hf
        obtain ⟨mc152, ms153, hkmc152, hnms153, hM⟩ := hf
        refine V.weak (k' := ((k - mc152) + 0) + mc152) (n' := ((n - ms153) + 0) + ms153) ?_ (by omega) (by omega)
        refine v_callV 4 dX9_isBuilt_298 hM rfl hh149 rfl (lw_V q2210 q653 q654 q89 q655) rfl (by decide +kernel) (by decide) rfl (cat_len (Nat.le_of_ble_eq_true rfl)) (kk_I fun i151 h150 hg => ?_) (fun _ _ _ hx => vx_leave (by decide) hx)
        have hf := hg
        clear hg
        refine v_if_lt 308 dX9_isBuilt_301 (by decide) (fun c156 => ?_) (fun c156 => ?_)
        · replace hf := hf.1 c156
          refine v_iconst (v := 0) dX9_isBuilt_308 (by decide) ?_
          exact v_zret dX9_isBuilt_309 rfl (by decide) ⟨_, rfl, hf⟩
        · replace hf := hf.2 c156
          refine v_iconst (v := 1) dX9_isBuilt_304 (by decide) ?_
          refine v_goto 309 dX9_isBuilt_305 (by decide) ?_
          exact v_zret dX9_isBuilt_309 rfl (by decide) ⟨_, rfl, hf⟩
    · replace hf := hf.2 c109
      refine v_aload_n (i := 0) dX9_isBuilt_242 rfl rfl ?_
      replace hf := gR_e hf
      obtain ⟨w158, fs159, r157, hh160, hk161, hf⟩ := hf
      refine v_getf (T := TX9) (ci := 9) 1 dX9_isBuilt_243 q2152 rfl in_X9 (Nat.le_of_ble_eq_true rfl) (Or.inl rfl) hh160 hk161 ?_
      refine v_iconst (v := 2) dX9_isBuilt_246 (by decide) ?_
      obtain ⟨a162, rfl⟩ := aI_s hf
      replace hf := aI_e hf
      obtain ⟨w163, N164, f165, hh166, hi167, i168, ei168, hf⟩ := hf
      refine v_iald dX9_isBuilt_247 hh166 hi167 ?_
      rw [← ei168]
      refine V.addK0 ?_
      refine V.addN0 ?_
      refine v_callSN (mc := 0) (ms := 0) 1 dX9_isBuilt_248 (m_X0_isKind hG hf) rfl (lw_meth q645) q88 q2208 q644 rfl (by decide +kernel) (by decide) rfl (cat_len (Nat.le_of_ble_eq_true rfl)) (kk_I fun i170 h169 hg => ?_) (fun _ _ _ hx => hx.elim)
      replace hf := hg
      clear hg
      refine v_if_eq 270 dX9_isBuilt_251 (by decide) (fun c171 => ?_) (fun c171 => ?_)
      · replace hf := hf.1 c171
        refine v_iconst (v := 0) dX9_isBuilt_270 (by decide) ?_
        refine v_istore (i := 5) (lv' := [(0, .ref a0), (1, va_rf (some a103)), (2, .int i_2), (4, .int i_4), (5, .int (0 : Int32))]) dX9_isBuilt_271 (Nat.le_of_ble_eq_true rfl) rfl rfl ?_
        refine v_iload (i := 5) dX9_isBuilt_273 rfl ?_
        refine v_if_eq 308 dX9_isBuilt_275 (by decide) (fun c172 => ?_) (fun c172 => ?_)
        · replace hf := hf.1 c172
          refine v_iconst (v := 0) dX9_isBuilt_308 (by decide) ?_
          exact v_zret dX9_isBuilt_309 rfl (by decide) ⟨_, rfl, hf⟩
        · replace hf := hf.2 c172
          refine v_qload_n (r := (some a103)) (i := 1) dX9_isBuilt_278 rfl rfl ?_
          refine v_iload_n (i := 2) dX9_isBuilt_279 rfl rfl ?_
          refine v_aload_n (i := 0) dX9_isBuilt_280 rfl rfl ?_
          replace hf := gR_e hf
          obtain ⟨w174, fs175, r173, hh176, hk177, hf⟩ := hf
          refine v_getf (T := TX9) (ci := 9) 1 dX9_isBuilt_281 q2152 rfl in_X9 (Nat.le_of_ble_eq_true rfl) (Or.inl rfl) hh176 hk177 ?_
          refine v_iconst (v := 1) dX9_isBuilt_284 (by decide) ?_
          obtain ⟨a178, rfl⟩ := aI_s hf
          replace hf := aI_e hf
          obtain ⟨w179, N180, f181, hh182, hi183, i184, ei184, hf⟩ := hf
          refine v_iald dX9_isBuilt_285 hh182 hi183 ?_
          rw [← ei184]
          refine v_aload_n (i := 0) dX9_isBuilt_286 rfl rfl ?_
          replace hf := gR_e hf
          obtain ⟨w186, fs187, r185, hh188, hk189, hf⟩ := hf
          refine v_getf (T := TX9) (ci := 9) 1 dX9_isBuilt_287 q2152 rfl in_X9 (Nat.le_of_ble_eq_true rfl) (Or.inl rfl) hh188 hk189 ?_
          refine v_iconst (v := 2) dX9_isBuilt_290 (by decide) ?_
          obtain ⟨a190, rfl⟩ := aI_s hf
          replace hf := aI_e hf
          obtain ⟨w191, N192, f193, hh194, hi195, i196, ei196, hf⟩ := hf
          refine v_iald dX9_isBuilt_291 hh194 hi195 ?_
          rw [← ei196]
          refine v_aload_n (i := 0) dX9_isBuilt_292 rfl rfl ?_
          replace hf := gR_e hf
          obtain ⟨w198, fs199, r197, hh200, hk201, hf⟩ := hf
          refine v_getf (T := TX9) (ci := 9) 1 dX9_isBuilt_293 q2152 rfl in_X9 (Nat.le_of_ble_eq_true rfl) (Or.inl rfl) hh200 hk201 ?_
          refine v_iconst (v := 3) dX9_isBuilt_296 (by decide) ?_
          obtain ⟨a202, rfl⟩ := aI_s hf
          replace hf := aI_e hf
          obtain ⟨w203, N204, f205, hh206, hi207, i208, ei208, hf⟩ := hf
          refine v_iald dX9_isBuilt_297 hh206 hi207 ?_
          rw [← ei208]
          replace hf := rv_e hf
          obtain ⟨w209, fs210, hh211, hf⟩ := hf
          obtain ⟨mc214, ms215, hkmc214, hnms215, hM⟩ := hf
          refine V.weak (k' := ((k - mc214) + 0) + mc214) (n' := ((n - ms215) + 0) + ms215) ?_ (by omega) (by omega)
          refine v_callV 4 dX9_isBuilt_298 hM rfl hh211 rfl (lw_V q2210 q653 q654 q89 q655) rfl (by decide +kernel) (by decide) rfl (cat_len (Nat.le_of_ble_eq_true rfl)) (kk_I fun i213 h212 hg => ?_) (fun _ _ _ hx => vx_leave (by decide) hx)
          have hf := hg
          clear hg
          refine v_if_lt 308 dX9_isBuilt_301 (by decide) (fun c218 => ?_) (fun c218 => ?_)
          · replace hf := hf.1 c218
            refine v_iconst (v := 0) dX9_isBuilt_308 (by decide) ?_
            exact v_zret dX9_isBuilt_309 rfl (by decide) ⟨_, rfl, hf⟩
          · replace hf := hf.2 c218
            refine v_iconst (v := 1) dX9_isBuilt_304 (by decide) ?_
            refine v_goto 309 dX9_isBuilt_305 (by decide) ?_
            exact v_zret dX9_isBuilt_309 rfl (by decide) ⟨_, rfl, hf⟩
      · replace hf := hf.2 c171
        refine v_aload_n (i := 0) dX9_isBuilt_254 rfl rfl ?_
        replace hf := gR_e hf
        obtain ⟨w220, fs221, r219, hh222, hk223, hf⟩ := hf
        refine v_getf (T := TX9) (ci := 9) 1 dX9_isBuilt_255 q2152 rfl in_X9 (Nat.le_of_ble_eq_true rfl) (Or.inl rfl) hh222 hk223 ?_
        refine v_iconst (v := 3) dX9_isBuilt_258 (by decide) ?_
        obtain ⟨a224, rfl⟩ := aI_s hf
        replace hf := aI_e hf
        obtain ⟨w225, N226, f227, hh228, hi229, i230, ei230, hf⟩ := hf
        refine v_iald dX9_isBuilt_259 hh228 hi229 ?_
        rw [← ei230]
        refine V.addK0 ?_
        refine V.addN0 ?_
        refine v_callSN (mc := 0) (ms := 0) 1 dX9_isBuilt_260 (m_X0_isLock hG hf) rfl (lw_meth q648) q88 q2209 q647 rfl (by decide +kernel) (by decide) rfl (cat_len (Nat.le_of_ble_eq_true rfl)) (kk_I fun i232 h231 hg => ?_) (fun _ _ _ hx => hx.elim)
        replace hf := hg
        clear hg
        refine v_if_eq 270 dX9_isBuilt_263 (by decide) (fun c233 => ?_) (fun c233 => ?_)
        · replace hf := hf.1 c233
          refine v_iconst (v := 0) dX9_isBuilt_270 (by decide) ?_
          refine v_istore (i := 5) (lv' := [(0, .ref a0), (1, va_rf (some a103)), (2, .int i_2), (4, .int i_4), (5, .int (0 : Int32))]) dX9_isBuilt_271 (Nat.le_of_ble_eq_true rfl) rfl rfl ?_
          refine v_iload (i := 5) dX9_isBuilt_273 rfl ?_
          refine v_if_eq 308 dX9_isBuilt_275 (by decide) (fun c234 => ?_) (fun c234 => ?_)
          · replace hf := hf.1 c234
            refine v_iconst (v := 0) dX9_isBuilt_308 (by decide) ?_
            exact v_zret dX9_isBuilt_309 rfl (by decide) ⟨_, rfl, hf⟩
          · replace hf := hf.2 c234
            refine v_qload_n (r := (some a103)) (i := 1) dX9_isBuilt_278 rfl rfl ?_
            refine v_iload_n (i := 2) dX9_isBuilt_279 rfl rfl ?_
            refine v_aload_n (i := 0) dX9_isBuilt_280 rfl rfl ?_
            replace hf := gR_e hf
            obtain ⟨w236, fs237, r235, hh238, hk239, hf⟩ := hf
            refine v_getf (T := TX9) (ci := 9) 1 dX9_isBuilt_281 q2152 rfl in_X9 (Nat.le_of_ble_eq_true rfl) (Or.inl rfl) hh238 hk239 ?_
            refine v_iconst (v := 1) dX9_isBuilt_284 (by decide) ?_
            obtain ⟨a240, rfl⟩ := aI_s hf
            replace hf := aI_e hf
            obtain ⟨w241, N242, f243, hh244, hi245, i246, ei246, hf⟩ := hf
            refine v_iald dX9_isBuilt_285 hh244 hi245 ?_
            rw [← ei246]
            refine v_aload_n (i := 0) dX9_isBuilt_286 rfl rfl ?_
            replace hf := gR_e hf
            obtain ⟨w248, fs249, r247, hh250, hk251, hf⟩ := hf
            refine v_getf (T := TX9) (ci := 9) 1 dX9_isBuilt_287 q2152 rfl in_X9 (Nat.le_of_ble_eq_true rfl) (Or.inl rfl) hh250 hk251 ?_
            refine v_iconst (v := 2) dX9_isBuilt_290 (by decide) ?_
            obtain ⟨a252, rfl⟩ := aI_s hf
            replace hf := aI_e hf
            obtain ⟨w253, N254, f255, hh256, hi257, i258, ei258, hf⟩ := hf
            refine v_iald dX9_isBuilt_291 hh256 hi257 ?_
            rw [← ei258]
            refine v_aload_n (i := 0) dX9_isBuilt_292 rfl rfl ?_
            replace hf := gR_e hf
            obtain ⟨w260, fs261, r259, hh262, hk263, hf⟩ := hf
            refine v_getf (T := TX9) (ci := 9) 1 dX9_isBuilt_293 q2152 rfl in_X9 (Nat.le_of_ble_eq_true rfl) (Or.inl rfl) hh262 hk263 ?_
            refine v_iconst (v := 3) dX9_isBuilt_296 (by decide) ?_
            obtain ⟨a264, rfl⟩ := aI_s hf
            replace hf := aI_e hf
            obtain ⟨w265, N266, f267, hh268, hi269, i270, ei270, hf⟩ := hf
            refine v_iald dX9_isBuilt_297 hh268 hi269 ?_
            rw [← ei270]
            replace hf := rv_e hf
            obtain ⟨w271, fs272, hh273, hf⟩ := hf
            obtain ⟨mc276, ms277, hkmc276, hnms277, hM⟩ := hf
            refine V.weak (k' := ((k - mc276) + 0) + mc276) (n' := ((n - ms277) + 0) + ms277) ?_ (by omega) (by omega)
            refine v_callV 4 dX9_isBuilt_298 hM rfl hh273 rfl (lw_V q2210 q653 q654 q89 q655) rfl (by decide +kernel) (by decide) rfl (cat_len (Nat.le_of_ble_eq_true rfl)) (kk_I fun i275 h274 hg => ?_) (fun _ _ _ hx => vx_leave (by decide) hx)
            have hf := hg
            clear hg
            refine v_if_lt 308 dX9_isBuilt_301 (by decide) (fun c280 => ?_) (fun c280 => ?_)
            · replace hf := hf.1 c280
              refine v_iconst (v := 0) dX9_isBuilt_308 (by decide) ?_
              exact v_zret dX9_isBuilt_309 rfl (by decide) ⟨_, rfl, hf⟩
            · replace hf := hf.2 c280
              refine v_iconst (v := 1) dX9_isBuilt_304 (by decide) ?_
              refine v_goto 309 dX9_isBuilt_305 (by decide) ?_
              exact v_zret dX9_isBuilt_309 rfl (by decide) ⟨_, rfl, hf⟩
        · replace hf := hf.2 c233
          refine v_iconst (v := 1) dX9_isBuilt_266 (by decide) ?_
          refine v_goto 271 dX9_isBuilt_267 (by decide) ?_
          refine v_istore (i := 5) (lv' := [(0, .ref a0), (1, va_rf (some a103)), (2, .int i_2), (4, .int i_4), (5, .int (1 : Int32))]) dX9_isBuilt_271 (Nat.le_of_ble_eq_true rfl) rfl rfl ?_
          refine v_iload (i := 5) dX9_isBuilt_273 rfl ?_
          refine v_if_eq 308 dX9_isBuilt_275 (by decide) (fun c281 => ?_) (fun c281 => ?_)
          · replace hf := hf.1 c281
            refine v_iconst (v := 0) dX9_isBuilt_308 (by decide) ?_
            exact v_zret dX9_isBuilt_309 rfl (by decide) ⟨_, rfl, hf⟩
          · replace hf := hf.2 c281
            refine v_qload_n (r := (some a103)) (i := 1) dX9_isBuilt_278 rfl rfl ?_
            refine v_iload_n (i := 2) dX9_isBuilt_279 rfl rfl ?_
            refine v_aload_n (i := 0) dX9_isBuilt_280 rfl rfl ?_
            replace hf := gR_e hf
            obtain ⟨w283, fs284, r282, hh285, hk286, hf⟩ := hf
            refine v_getf (T := TX9) (ci := 9) 1 dX9_isBuilt_281 q2152 rfl in_X9 (Nat.le_of_ble_eq_true rfl) (Or.inl rfl) hh285 hk286 ?_
            refine v_iconst (v := 1) dX9_isBuilt_284 (by decide) ?_
            obtain ⟨a287, rfl⟩ := aI_s hf
            replace hf := aI_e hf
            obtain ⟨w288, N289, f290, hh291, hi292, i293, ei293, hf⟩ := hf
            refine v_iald dX9_isBuilt_285 hh291 hi292 ?_
            rw [← ei293]
            refine v_aload_n (i := 0) dX9_isBuilt_286 rfl rfl ?_
            replace hf := gR_e hf
            obtain ⟨w295, fs296, r294, hh297, hk298, hf⟩ := hf
            refine v_getf (T := TX9) (ci := 9) 1 dX9_isBuilt_287 q2152 rfl in_X9 (Nat.le_of_ble_eq_true rfl) (Or.inl rfl) hh297 hk298 ?_
            refine v_iconst (v := 2) dX9_isBuilt_290 (by decide) ?_
            obtain ⟨a299, rfl⟩ := aI_s hf
            replace hf := aI_e hf
            obtain ⟨w300, N301, f302, hh303, hi304, i305, ei305, hf⟩ := hf
            refine v_iald dX9_isBuilt_291 hh303 hi304 ?_
            rw [← ei305]
            refine v_aload_n (i := 0) dX9_isBuilt_292 rfl rfl ?_
            replace hf := gR_e hf
            obtain ⟨w307, fs308, r306, hh309, hk310, hf⟩ := hf
            refine v_getf (T := TX9) (ci := 9) 1 dX9_isBuilt_293 q2152 rfl in_X9 (Nat.le_of_ble_eq_true rfl) (Or.inl rfl) hh309 hk310 ?_
            refine v_iconst (v := 3) dX9_isBuilt_296 (by decide) ?_
            obtain ⟨a311, rfl⟩ := aI_s hf
            replace hf := aI_e hf
            obtain ⟨w312, N313, f314, hh315, hi316, i317, ei317, hf⟩ := hf
            refine v_iald dX9_isBuilt_297 hh315 hi316 ?_
            rw [← ei317]
            replace hf := rv_e hf
            obtain ⟨w318, fs319, hh320, hf⟩ := hf
            obtain ⟨mc323, ms324, hkmc323, hnms324, hM⟩ := hf
            refine V.weak (k' := ((k - mc323) + 0) + mc323) (n' := ((n - ms324) + 0) + ms324) ?_ (by omega) (by omega)
            refine v_callV 4 dX9_isBuilt_298 hM rfl hh320 rfl (lw_V q2210 q653 q654 q89 q655) rfl (by decide +kernel) (by decide) rfl (cat_len (Nat.le_of_ble_eq_true rfl)) (kk_I fun i322 h321 hg => ?_) (fun _ _ _ hx => vx_leave (by decide) hx)
            have hf := hg
            clear hg
            refine v_if_lt 308 dX9_isBuilt_301 (by decide) (fun c327 => ?_) (fun c327 => ?_)
            · replace hf := hf.1 c327
              refine v_iconst (v := 0) dX9_isBuilt_308 (by decide) ?_
              exact v_zret dX9_isBuilt_309 rfl (by decide) ⟨_, rfl, hf⟩
            · replace hf := hf.2 c327
              refine v_iconst (v := 1) dX9_isBuilt_304 (by decide) ?_
              refine v_goto 309 dX9_isBuilt_305 (by decide) ?_
              exact v_zret dX9_isBuilt_309 rfl (by decide) ⟨_, rfl, hf⟩
theorem b_X9_isBuilt {G : Gt} {h : Hp} {mc ms : Nat} {a0 : Nat} {r_1 : Option Nat} {K : Int32 → Hp → Prop} {X : Nat → Nat → Hp → Prop} (hG : Base G) (hf : ∀ E : Ev, V G E Y_X9_isBuilt cX9_isBuilt 6 (QM G E (kI K) X) h mc ms 0 [(0, .ref a0), (1, va_rf r_1)] []) : MM G Y_X9_isBuilt cX9_isBuilt 6 mc ms [.ref a0, va_rf r_1] h (kI K) X := mm_of hG (by decide +kernel) rfl (ac_c rfl (ac_c (rf_cat _) ac_nil)) (Nat.le_of_ble_eq_true rfl) (fun E _ _ => hf E)
abbrev Y_X9_isCarriedOut : Yt := (yX9_isCarriedOut, some (.boolean), 8, 201, [(54, 71, 72, 106)])
def f_X9_isCarriedOut (G : Gt) (h : Hp) (k n : Nat) (t_0 : Option Nat) (r_1 : Option Nat) (K : Int32 → Hp → Prop) : Prop :=
gR h t_0 9 0 fun r1 =>
rv h r1 14 (dI G Y_J6_equals cJ6_equals 3 [va_rf r1, .ref (g_k G 0)] h k n (fun i11 h10 k14 n15 =>
((¬ (i11 = 0) → (((1 : Int32) = 0 → rv h10 t_0 9 (dIx G Y_X9_isBuilt cX9_isBuilt 6 [va_rf t_0, va_rf r_1] h10 k14 n15 (fun i22 h21 k25 n26 =>
(narrow .boolean (.int i22) = .int i22 ∧ K i22 h21)) (fun c27 q28 h21 k25 n26 =>
(c27 = 4 ∧ K (0 : Int32) h21)))) ∧
(¬ ((1 : Int32) = 0) → rv h10 t_0 9 (dIx G Y_X9_isWalked cX9_isWalked 5 [va_rf t_0, va_rf r_1] h10 k14 n15 (fun i33 h32 k36 n37 =>
(narrow .boolean (.int i33) = .int i33 ∧ K i33 h32)) (fun c38 q39 h32 k36 n37 =>
(c38 = 4 ∧ K (0 : Int32) h32)))))) ∧
(i11 = 0 → gR h10 t_0 9 0 fun r40 =>
rv h10 r40 14 (dI G Y_J6_equals cJ6_equals 3 [va_rf r40, .ref (g_k G 1)] h10 k14 n15 (fun i50 h49 k53 n54 =>
((¬ (i50 = 0) → (((1 : Int32) = 0 → rv h49 t_0 9 (dIx G Y_X9_isBuilt cX9_isBuilt 6 [va_rf t_0, va_rf r_1] h49 k53 n54 (fun i61 h60 k64 n65 =>
(narrow .boolean (.int i61) = .int i61 ∧ K i61 h60)) (fun c66 q67 h60 k64 n65 =>
(c66 = 4 ∧ K (0 : Int32) h60)))) ∧
(¬ ((1 : Int32) = 0) → rv h49 t_0 9 (dIx G Y_X9_isWalked cX9_isWalked 5 [va_rf t_0, va_rf r_1] h49 k53 n54 (fun i72 h71 k75 n76 =>
(narrow .boolean (.int i72) = .int i72 ∧ K i72 h71)) (fun c77 q78 h71 k75 n76 =>
(c77 = 4 ∧ K (0 : Int32) h71)))))) ∧
(i50 = 0 → gR h49 t_0 9 0 fun r79 =>
rv h49 r79 14 (dI G Y_J6_equals cJ6_equals 3 [va_rf r79, .ref (g_k G 2)] h49 k53 n54 (fun i89 h88 k92 n93 =>
((¬ (i89 = 0) → (((1 : Int32) = 0 → rv h88 t_0 9 (dIx G Y_X9_isBuilt cX9_isBuilt 6 [va_rf t_0, va_rf r_1] h88 k92 n93 (fun i100 h99 k103 n104 =>
(narrow .boolean (.int i100) = .int i100 ∧ K i100 h99)) (fun c105 q106 h99 k103 n104 =>
(c105 = 4 ∧ K (0 : Int32) h99)))) ∧
(¬ ((1 : Int32) = 0) → rv h88 t_0 9 (dIx G Y_X9_isWalked cX9_isWalked 5 [va_rf t_0, va_rf r_1] h88 k92 n93 (fun i111 h110 k114 n115 =>
(narrow .boolean (.int i111) = .int i111 ∧ K i111 h110)) (fun c116 q117 h110 k114 n115 =>
(c116 = 4 ∧ K (0 : Int32) h110)))))) ∧
(i89 = 0 → gR h88 t_0 9 0 fun r118 =>
rv h88 r118 14 (dI G Y_J6_equals cJ6_equals 3 [va_rf r118, .ref (g_k G 3)] h88 k92 n93 (fun i128 h127 k131 n132 =>
((i128 = 0 → (((0 : Int32) = 0 → rv h127 t_0 9 (dIx G Y_X9_isBuilt cX9_isBuilt 6 [va_rf t_0, va_rf r_1] h127 k131 n132 (fun i139 h138 k142 n143 =>
(narrow .boolean (.int i139) = .int i139 ∧ K i139 h138)) (fun c144 q145 h138 k142 n143 =>
(c144 = 4 ∧ K (0 : Int32) h138)))) ∧
(¬ ((0 : Int32) = 0) → rv h127 t_0 9 (dIx G Y_X9_isWalked cX9_isWalked 5 [va_rf t_0, va_rf r_1] h127 k131 n132 (fun i150 h149 k153 n154 =>
(narrow .boolean (.int i150) = .int i150 ∧ K i150 h149)) (fun c155 q156 h149 k153 n154 =>
(c155 = 4 ∧ K (0 : Int32) h149)))))) ∧
(¬ (i128 = 0) → (((1 : Int32) = 0 → rv h127 t_0 9 (dIx G Y_X9_isBuilt cX9_isBuilt 6 [va_rf t_0, va_rf r_1] h127 k131 n132 (fun i162 h161 k165 n166 =>
(narrow .boolean (.int i162) = .int i162 ∧ K i162 h161)) (fun c167 q168 h161 k165 n166 =>
(c167 = 4 ∧ K (0 : Int32) h161)))) ∧
(¬ ((1 : Int32) = 0) → rv h127 t_0 9 (dIx G Y_X9_isWalked cX9_isWalked 5 [va_rf t_0, va_rf r_1] h127 k131 n132 (fun i173 h172 k176 n177 =>
(narrow .boolean (.int i173) = .int i173 ∧ K i173 h172)) (fun c178 q179 h172 k176 n177 =>
(c178 = 4 ∧ K (0 : Int32) h172)))))))) xN)))) xN)))) xN)))) xN)
theorem m_X9_isCarriedOut {G : Gt} {h : Hp} {mc ms : Nat} {a0 : Nat} {r_1 : Option Nat} {K : Int32 → Hp → Prop} (hG : Base G) (hA : 0 ≤ mc) (hB : 0 ≤ ms) (hf : f_X9_isCarriedOut G h (mc - 0) (ms - 0) (some a0) r_1 K) : MM G Y_X9_isCarriedOut cX9_isCarriedOut 4 mc ms [.ref a0, va_rf r_1] h (kI K) xN := by
  refine mm_ofH hG (by decide +kernel) rfl (ac_c rfl (ac_c (rf_cat _) ac_nil)) (Nat.le_of_ble_eq_true rfl) (fun E _ _ => ?_)
  obtain ⟨k, hk9⟩ : ∃ z, z = mc - 0 := ⟨_, rfl⟩
  obtain ⟨n, hn9⟩ : ∃ z, z = ms - 0 := ⟨_, rfl⟩
  rw [← hk9, ← hn9] at hf
  refine V.weak (k' := k + 0) (n' := n + 0) ?_ (by omega) (by omega)
  show V G E Y_X9_isCarriedOut cX9_isCarriedOut 4 (QM G E (kI K) xN) h (k + 0) (n + 0) 0 [(0, .ref a0), (1, va_rf r_1)] []
  unfold f_X9_isCarriedOut at hf
  refine v_qload_n (r := (some a0)) (i := 0) dX9_isCarriedOut_0 rfl rfl ?_
  replace hf := gR_e hf
  obtain ⟨w2, fs3, r1, hh4, hk5, hf⟩ := hf
  refine v_getf (T := TX9) (ci := 9) 0 dX9_isCarriedOut_1 q2151 rfl in_X9 (Nat.le_of_ble_eq_true rfl) (Or.inl rfl) hh4 hk5 ?_
  refine v_ldcS dX9_isCarriedOut_4 (List.mem_of_getElem? (i := 9) rfl) ?_
  obtain ⟨a6, rfl⟩ := rv_s hf
  replace hf := rv_e hf
  obtain ⟨w7, fs8, hh9, hf⟩ := hf
  obtain ⟨mc12, ms13, hkmc12, hnms13, hM⟩ := hf
  refine V.weak (k' := ((k - mc12) + 0) + mc12) (n' := ((n - ms13) + 0) + ms13) ?_ (by omega) (by omega)
  refine v_callV 1 dX9_isCarriedOut_6 hM rfl hh9 rfl (lw_V q2179 q1428 q2873 q96 q1429) rfl (by decide +kernel) (by decide) rfl (cat_len (Nat.le_of_ble_eq_true rfl)) (kk_I fun i11 h10 hg => ?_) (fun _ _ _ hx => hx.elim)
  have hf := hg
  clear hg
  refine v_if_ne 48 dX9_isCarriedOut_9 (by decide) (fun c16 => ?_) (fun c16 => ?_)
  · replace hf := hf.1 c16
    refine v_iconst (v := 1) dX9_isCarriedOut_48 (by decide) ?_
    refine v_goto 53 dX9_isCarriedOut_49 (by decide) ?_
    refine v_istore_n (i := 2) (lv' := [(0, va_rf (some a0)), (1, va_rf r_1), (2, .int (1 : Int32))]) dX9_isCarriedOut_53 rfl (Nat.le_of_ble_eq_true rfl) rfl rfl ?_
    refine v_iload_n (i := 2) dX9_isCarriedOut_54 rfl rfl ?_
    refine v_if_eq 66 dX9_isCarriedOut_55 (by decide) (fun c17 => ?_) (fun c17 => ?_)
    · replace hf := hf.1 c17
      refine v_qload_n (r := (some a0)) (i := 0) dX9_isCarriedOut_66 rfl rfl ?_
      refine v_qload_n (r := r_1) (i := 1) dX9_isCarriedOut_67 rfl rfl ?_
      replace hf := rv_e hf
      obtain ⟨w18, fs19, hh20, hf⟩ := hf
      obtain ⟨mc23, ms24, hkmc23, hnms24, hM⟩ := hf
      refine V.weak (k' := (((k - mc12) - mc23) + 0) + mc23) (n' := (((n - ms13) - ms24) + 0) + ms24) ?_ (by omega) (by omega)
      refine v_callV 1 dX9_isCarriedOut_68 hM rfl hh20 rfl (lw_V q2195 q2197 qs45 q141 q2198) rfl (by decide +kernel) (by decide) rfl (cat_len (Nat.le_of_ble_eq_true rfl)) (kk_I fun i22 h21 hg => ?_) (fun c27 q28 h21 hg => ?_)
      · have hf := hg
        clear hg
        exact v_zret dX9_isCarriedOut_71 rfl hf.1 ⟨_, rfl, hf.2⟩
      · have hf := hg
        clear hg
        obtain ⟨rfl, hf⟩ := hf
        refine vx_caught [] _ _ rfl (fun _ h => nomatch h) (by decide) (by decide) q2177 rfl q516 ?_
        refine v_astore_n (i := 3) (lv' := [(0, va_rf (some a0)), (1, va_rf r_1), (2, .int (1 : Int32)), (3, .ref q28)]) dX9_isCarriedOut_72 rfl (Nat.le_of_ble_eq_true rfl) rfl rfl ?_
        refine v_iconst (v := 0) dX9_isCarriedOut_73 (by decide) ?_
        exact v_zret dX9_isCarriedOut_74 rfl (by decide) ⟨_, rfl, hf⟩
    · replace hf := hf.2 c17
      refine v_qload_n (r := (some a0)) (i := 0) dX9_isCarriedOut_58 rfl rfl ?_
      refine v_qload_n (r := r_1) (i := 1) dX9_isCarriedOut_59 rfl rfl ?_
      replace hf := rv_e hf
      obtain ⟨w29, fs30, hh31, hf⟩ := hf
      obtain ⟨mc34, ms35, hkmc34, hnms35, hM⟩ := hf
      refine V.weak (k' := (((k - mc12) - mc34) + 0) + mc34) (n' := (((n - ms13) - ms35) + 0) + ms35) ?_ (by omega) (by omega)
      refine v_callV 1 dX9_isCarriedOut_60 hM rfl hh31 rfl (lw_V q2183 q2185 qs44 q141 q2186) rfl (by decide +kernel) (by decide) rfl (cat_len (Nat.le_of_ble_eq_true rfl)) (kk_I fun i33 h32 hg => ?_) (fun c38 q39 h32 hg => ?_)
      · have hf := hg
        clear hg
        refine v_goto 71 dX9_isCarriedOut_63 (by decide) ?_
        exact v_zret dX9_isCarriedOut_71 rfl hf.1 ⟨_, rfl, hf.2⟩
      · have hf := hg
        clear hg
        obtain ⟨rfl, hf⟩ := hf
        refine vx_caught [] _ _ rfl (fun _ h => nomatch h) (by decide) (by decide) q2177 rfl q516 ?_
        refine v_astore_n (i := 3) (lv' := [(0, va_rf (some a0)), (1, va_rf r_1), (2, .int (1 : Int32)), (3, .ref q39)]) dX9_isCarriedOut_72 rfl (Nat.le_of_ble_eq_true rfl) rfl rfl ?_
        refine v_iconst (v := 0) dX9_isCarriedOut_73 (by decide) ?_
        exact v_zret dX9_isCarriedOut_74 rfl (by decide) ⟨_, rfl, hf⟩
  · replace hf := hf.2 c16
    refine v_qload_n (r := (some a0)) (i := 0) dX9_isCarriedOut_12 rfl rfl ?_
    replace hf := gR_e hf
    obtain ⟨w41, fs42, r40, hh43, hk44, hf⟩ := hf
    refine v_getf (T := TX9) (ci := 9) 0 dX9_isCarriedOut_13 q2151 rfl in_X9 (Nat.le_of_ble_eq_true rfl) (Or.inl rfl) hh43 hk44 ?_
    refine v_ldcS dX9_isCarriedOut_16 (List.mem_of_getElem? (i := 10) rfl) ?_
    obtain ⟨a45, rfl⟩ := rv_s hf
    replace hf := rv_e hf
    obtain ⟨w46, fs47, hh48, hf⟩ := hf
    obtain ⟨mc51, ms52, hkmc51, hnms52, hM⟩ := hf
    refine V.weak (k' := (((k - mc12) - mc51) + 0) + mc51) (n' := (((n - ms13) - ms52) + 0) + ms52) ?_ (by omega) (by omega)
    refine v_callV 1 dX9_isCarriedOut_18 hM rfl hh48 rfl (lw_V q2179 q1428 q2873 q96 q1429) rfl (by decide +kernel) (by decide) rfl (cat_len (Nat.le_of_ble_eq_true rfl)) (kk_I fun i50 h49 hg => ?_) (fun _ _ _ hx => hx.elim)
    have hf := hg
    clear hg
    refine v_if_ne 48 dX9_isCarriedOut_21 (by decide) (fun c55 => ?_) (fun c55 => ?_)
    · replace hf := hf.1 c55
      refine v_iconst (v := 1) dX9_isCarriedOut_48 (by decide) ?_
      refine v_goto 53 dX9_isCarriedOut_49 (by decide) ?_
      refine v_istore_n (i := 2) (lv' := [(0, va_rf (some a0)), (1, va_rf r_1), (2, .int (1 : Int32))]) dX9_isCarriedOut_53 rfl (Nat.le_of_ble_eq_true rfl) rfl rfl ?_
      refine v_iload_n (i := 2) dX9_isCarriedOut_54 rfl rfl ?_
      refine v_if_eq 66 dX9_isCarriedOut_55 (by decide) (fun c56 => ?_) (fun c56 => ?_)
      · replace hf := hf.1 c56
        refine v_qload_n (r := (some a0)) (i := 0) dX9_isCarriedOut_66 rfl rfl ?_
        refine v_qload_n (r := r_1) (i := 1) dX9_isCarriedOut_67 rfl rfl ?_
        replace hf := rv_e hf
        obtain ⟨w57, fs58, hh59, hf⟩ := hf
        obtain ⟨mc62, ms63, hkmc62, hnms63, hM⟩ := hf
        refine V.weak (k' := ((((k - mc12) - mc51) - mc62) + 0) + mc62) (n' := ((((n - ms13) - ms52) - ms63) + 0) + ms63) ?_ (by omega) (by omega)
        refine v_callV 1 dX9_isCarriedOut_68 hM rfl hh59 rfl (lw_V q2195 q2197 qs45 q141 q2198) rfl (by decide +kernel) (by decide) rfl (cat_len (Nat.le_of_ble_eq_true rfl)) (kk_I fun i61 h60 hg => ?_) (fun c66 q67 h60 hg => ?_)
        · have hf := hg
          clear hg
          exact v_zret dX9_isCarriedOut_71 rfl hf.1 ⟨_, rfl, hf.2⟩
        · have hf := hg
          clear hg
          obtain ⟨rfl, hf⟩ := hf
          refine vx_caught [] _ _ rfl (fun _ h => nomatch h) (by decide) (by decide) q2177 rfl q516 ?_
          refine v_astore_n (i := 3) (lv' := [(0, va_rf (some a0)), (1, va_rf r_1), (2, .int (1 : Int32)), (3, .ref q67)]) dX9_isCarriedOut_72 rfl (Nat.le_of_ble_eq_true rfl) rfl rfl ?_
          refine v_iconst (v := 0) dX9_isCarriedOut_73 (by decide) ?_
          exact v_zret dX9_isCarriedOut_74 rfl (by decide) ⟨_, rfl, hf⟩
      · replace hf := hf.2 c56
        refine v_qload_n (r := (some a0)) (i := 0) dX9_isCarriedOut_58 rfl rfl ?_
        refine v_qload_n (r := r_1) (i := 1) dX9_isCarriedOut_59 rfl rfl ?_
        replace hf := rv_e hf
        obtain ⟨w68, fs69, hh70, hf⟩ := hf
        obtain ⟨mc73, ms74, hkmc73, hnms74, hM⟩ := hf
        refine V.weak (k' := ((((k - mc12) - mc51) - mc73) + 0) + mc73) (n' := ((((n - ms13) - ms52) - ms74) + 0) + ms74) ?_ (by omega) (by omega)
        refine v_callV 1 dX9_isCarriedOut_60 hM rfl hh70 rfl (lw_V q2183 q2185 qs44 q141 q2186) rfl (by decide +kernel) (by decide) rfl (cat_len (Nat.le_of_ble_eq_true rfl)) (kk_I fun i72 h71 hg => ?_) (fun c77 q78 h71 hg => ?_)
        · have hf := hg
          clear hg
          refine v_goto 71 dX9_isCarriedOut_63 (by decide) ?_
          exact v_zret dX9_isCarriedOut_71 rfl hf.1 ⟨_, rfl, hf.2⟩
        · have hf := hg
          clear hg
          obtain ⟨rfl, hf⟩ := hf
          refine vx_caught [] _ _ rfl (fun _ h => nomatch h) (by decide) (by decide) q2177 rfl q516 ?_
          refine v_astore_n (i := 3) (lv' := [(0, va_rf (some a0)), (1, va_rf r_1), (2, .int (1 : Int32)), (3, .ref q78)]) dX9_isCarriedOut_72 rfl (Nat.le_of_ble_eq_true rfl) rfl rfl ?_
          refine v_iconst (v := 0) dX9_isCarriedOut_73 (by decide) ?_
          exact v_zret dX9_isCarriedOut_74 rfl (by decide) ⟨_, rfl, hf⟩
    · replace hf := hf.2 c55
      refine v_qload_n (r := (some a0)) (i := 0) dX9_isCarriedOut_24 rfl rfl ?_
      replace hf := gR_e hf
      obtain ⟨w80, fs81, r79, hh82, hk83, hf⟩ := hf
      refine v_getf (T := TX9) (ci := 9) 0 dX9_isCarriedOut_25 q2151 rfl in_X9 (Nat.le_of_ble_eq_true rfl) (Or.inl rfl) hh82 hk83 ?_
      refine v_ldcS dX9_isCarriedOut_28 (List.mem_of_getElem? (i := 11) rfl) ?_
      obtain ⟨a84, rfl⟩ := rv_s hf
      replace hf := rv_e hf
      obtain ⟨w85, fs86, hh87, hf⟩ := hf
      obtain ⟨mc90, ms91, hkmc90, hnms91, hM⟩ := hf
      refine V.weak (k' := ((((k - mc12) - mc51) - mc90) + 0) + mc90) (n' := ((((n - ms13) - ms52) - ms91) + 0) + ms91) ?_ (by omega) (by omega)
      refine v_callV 1 dX9_isCarriedOut_30 hM rfl hh87 rfl (lw_V q2179 q1428 q2873 q96 q1429) rfl (by decide +kernel) (by decide) rfl (cat_len (Nat.le_of_ble_eq_true rfl)) (kk_I fun i89 h88 hg => ?_) (fun _ _ _ hx => hx.elim)
      have hf := hg
      clear hg
      refine v_if_ne 48 dX9_isCarriedOut_33 (by decide) (fun c94 => ?_) (fun c94 => ?_)
      · replace hf := hf.1 c94
        refine v_iconst (v := 1) dX9_isCarriedOut_48 (by decide) ?_
        refine v_goto 53 dX9_isCarriedOut_49 (by decide) ?_
        refine v_istore_n (i := 2) (lv' := [(0, va_rf (some a0)), (1, va_rf r_1), (2, .int (1 : Int32))]) dX9_isCarriedOut_53 rfl (Nat.le_of_ble_eq_true rfl) rfl rfl ?_
        refine v_iload_n (i := 2) dX9_isCarriedOut_54 rfl rfl ?_
        refine v_if_eq 66 dX9_isCarriedOut_55 (by decide) (fun c95 => ?_) (fun c95 => ?_)
        · replace hf := hf.1 c95
          refine v_qload_n (r := (some a0)) (i := 0) dX9_isCarriedOut_66 rfl rfl ?_
          refine v_qload_n (r := r_1) (i := 1) dX9_isCarriedOut_67 rfl rfl ?_
          replace hf := rv_e hf
          obtain ⟨w96, fs97, hh98, hf⟩ := hf
          obtain ⟨mc101, ms102, hkmc101, hnms102, hM⟩ := hf
          refine V.weak (k' := (((((k - mc12) - mc51) - mc90) - mc101) + 0) + mc101) (n' := (((((n - ms13) - ms52) - ms91) - ms102) + 0) + ms102) ?_ (by omega) (by omega)
          refine v_callV 1 dX9_isCarriedOut_68 hM rfl hh98 rfl (lw_V q2195 q2197 qs45 q141 q2198) rfl (by decide +kernel) (by decide) rfl (cat_len (Nat.le_of_ble_eq_true rfl)) (kk_I fun i100 h99 hg => ?_) (fun c105 q106 h99 hg => ?_)
          · have hf := hg
            clear hg
            exact v_zret dX9_isCarriedOut_71 rfl hf.1 ⟨_, rfl, hf.2⟩
          · have hf := hg
            clear hg
            obtain ⟨rfl, hf⟩ := hf
            refine vx_caught [] _ _ rfl (fun _ h => nomatch h) (by decide) (by decide) q2177 rfl q516 ?_
            refine v_astore_n (i := 3) (lv' := [(0, va_rf (some a0)), (1, va_rf r_1), (2, .int (1 : Int32)), (3, .ref q106)]) dX9_isCarriedOut_72 rfl (Nat.le_of_ble_eq_true rfl) rfl rfl ?_
            refine v_iconst (v := 0) dX9_isCarriedOut_73 (by decide) ?_
            exact v_zret dX9_isCarriedOut_74 rfl (by decide) ⟨_, rfl, hf⟩
        · replace hf := hf.2 c95
          refine v_qload_n (r := (some a0)) (i := 0) dX9_isCarriedOut_58 rfl rfl ?_
          refine v_qload_n (r := r_1) (i := 1) dX9_isCarriedOut_59 rfl rfl ?_
          replace hf := rv_e hf
          obtain ⟨w107, fs108, hh109, hf⟩ := hf
          obtain ⟨mc112, ms113, hkmc112, hnms113, hM⟩ := hf
          refine V.weak (k' := (((((k - mc12) - mc51) - mc90) - mc112) + 0) + mc112) (n' := (((((n - ms13) - ms52) - ms91) - ms113) + 0) + ms113) ?_ (by omega) (by omega)
          refine v_callV 1 dX9_isCarriedOut_60 hM rfl hh109 rfl (lw_V q2183 q2185 qs44 q141 q2186) rfl (by decide +kernel) (by decide) rfl (cat_len (Nat.le_of_ble_eq_true rfl)) (kk_I fun i111 h110 hg => ?_) (fun c116 q117 h110 hg => ?_)
          · have hf := hg
            clear hg
            refine v_goto 71 dX9_isCarriedOut_63 (by decide) ?_
            exact v_zret dX9_isCarriedOut_71 rfl hf.1 ⟨_, rfl, hf.2⟩
          · have hf := hg
            clear hg
            obtain ⟨rfl, hf⟩ := hf
            refine vx_caught [] _ _ rfl (fun _ h => nomatch h) (by decide) (by decide) q2177 rfl q516 ?_
            refine v_astore_n (i := 3) (lv' := [(0, va_rf (some a0)), (1, va_rf r_1), (2, .int (1 : Int32)), (3, .ref q117)]) dX9_isCarriedOut_72 rfl (Nat.le_of_ble_eq_true rfl) rfl rfl ?_
            refine v_iconst (v := 0) dX9_isCarriedOut_73 (by decide) ?_
            exact v_zret dX9_isCarriedOut_74 rfl (by decide) ⟨_, rfl, hf⟩
      · replace hf := hf.2 c94
        refine v_qload_n (r := (some a0)) (i := 0) dX9_isCarriedOut_36 rfl rfl ?_
        replace hf := gR_e hf
        obtain ⟨w119, fs120, r118, hh121, hk122, hf⟩ := hf
        refine v_getf (T := TX9) (ci := 9) 0 dX9_isCarriedOut_37 q2151 rfl in_X9 (Nat.le_of_ble_eq_true rfl) (Or.inl rfl) hh121 hk122 ?_
        refine v_ldcS dX9_isCarriedOut_40 (List.mem_of_getElem? (i := 12) rfl) ?_
        obtain ⟨a123, rfl⟩ := rv_s hf
        replace hf := rv_e hf
        obtain ⟨w124, fs125, hh126, hf⟩ := hf
        obtain ⟨mc129, ms130, hkmc129, hnms130, hM⟩ := hf
        refine V.weak (k' := (((((k - mc12) - mc51) - mc90) - mc129) + 0) + mc129) (n' := (((((n - ms13) - ms52) - ms91) - ms130) + 0) + ms130) ?_ (by omega) (by omega)
        refine v_callV 1 dX9_isCarriedOut_42 hM rfl hh126 rfl (lw_V q2179 q1428 q2873 q96 q1429) rfl (by decide +kernel) (by decide) rfl (cat_len (Nat.le_of_ble_eq_true rfl)) (kk_I fun i128 h127 hg => ?_) (fun _ _ _ hx => hx.elim)
        have hf := hg
        clear hg
        refine v_if_eq 52 dX9_isCarriedOut_45 (by decide) (fun c133 => ?_) (fun c133 => ?_)
        · replace hf := hf.1 c133
          refine v_iconst (v := 0) dX9_isCarriedOut_52 (by decide) ?_
          refine v_istore_n (i := 2) (lv' := [(0, va_rf (some a0)), (1, va_rf r_1), (2, .int (0 : Int32))]) dX9_isCarriedOut_53 rfl (Nat.le_of_ble_eq_true rfl) rfl rfl ?_
          refine v_iload_n (i := 2) dX9_isCarriedOut_54 rfl rfl ?_
          refine v_if_eq 66 dX9_isCarriedOut_55 (by decide) (fun c134 => ?_) (fun c134 => ?_)
          · replace hf := hf.1 c134
            refine v_qload_n (r := (some a0)) (i := 0) dX9_isCarriedOut_66 rfl rfl ?_
            refine v_qload_n (r := r_1) (i := 1) dX9_isCarriedOut_67 rfl rfl ?_
            replace hf := rv_e hf
            obtain ⟨w135, fs136, hh137, hf⟩ := hf
            obtain ⟨mc140, ms141, hkmc140, hnms141, hM⟩ := hf
            refine V.weak (k' := ((((((k - mc12) - mc51) - mc90) - mc129) - mc140) + 0) + mc140) (n' := ((((((n - ms13) - ms52) - ms91) - ms130) - ms141) + 0) + ms141) ?_ (by omega) (by omega)
            refine v_callV 1 dX9_isCarriedOut_68 hM rfl hh137 rfl (lw_V q2195 q2197 qs45 q141 q2198) rfl (by decide +kernel) (by decide) rfl (cat_len (Nat.le_of_ble_eq_true rfl)) (kk_I fun i139 h138 hg => ?_) (fun c144 q145 h138 hg => ?_)
            · have hf := hg
              clear hg
              exact v_zret dX9_isCarriedOut_71 rfl hf.1 ⟨_, rfl, hf.2⟩
            · have hf := hg
              clear hg
              obtain ⟨rfl, hf⟩ := hf
              refine vx_caught [] _ _ rfl (fun _ h => nomatch h) (by decide) (by decide) q2177 rfl q516 ?_
              refine v_astore_n (i := 3) (lv' := [(0, va_rf (some a0)), (1, va_rf r_1), (2, .int (0 : Int32)), (3, .ref q145)]) dX9_isCarriedOut_72 rfl (Nat.le_of_ble_eq_true rfl) rfl rfl ?_
              refine v_iconst (v := 0) dX9_isCarriedOut_73 (by decide) ?_
              exact v_zret dX9_isCarriedOut_74 rfl (by decide) ⟨_, rfl, hf⟩
          · replace hf := hf.2 c134
            refine v_qload_n (r := (some a0)) (i := 0) dX9_isCarriedOut_58 rfl rfl ?_
            refine v_qload_n (r := r_1) (i := 1) dX9_isCarriedOut_59 rfl rfl ?_
            replace hf := rv_e hf
            obtain ⟨w146, fs147, hh148, hf⟩ := hf
            obtain ⟨mc151, ms152, hkmc151, hnms152, hM⟩ := hf
            refine V.weak (k' := ((((((k - mc12) - mc51) - mc90) - mc129) - mc151) + 0) + mc151) (n' := ((((((n - ms13) - ms52) - ms91) - ms130) - ms152) + 0) + ms152) ?_ (by omega) (by omega)
            refine v_callV 1 dX9_isCarriedOut_60 hM rfl hh148 rfl (lw_V q2183 q2185 qs44 q141 q2186) rfl (by decide +kernel) (by decide) rfl (cat_len (Nat.le_of_ble_eq_true rfl)) (kk_I fun i150 h149 hg => ?_) (fun c155 q156 h149 hg => ?_)
            · have hf := hg
              clear hg
              refine v_goto 71 dX9_isCarriedOut_63 (by decide) ?_
              exact v_zret dX9_isCarriedOut_71 rfl hf.1 ⟨_, rfl, hf.2⟩
            · have hf := hg
              clear hg
              obtain ⟨rfl, hf⟩ := hf
              refine vx_caught [] _ _ rfl (fun _ h => nomatch h) (by decide) (by decide) q2177 rfl q516 ?_
              refine v_astore_n (i := 3) (lv' := [(0, va_rf (some a0)), (1, va_rf r_1), (2, .int (0 : Int32)), (3, .ref q156)]) dX9_isCarriedOut_72 rfl (Nat.le_of_ble_eq_true rfl) rfl rfl ?_
              refine v_iconst (v := 0) dX9_isCarriedOut_73 (by decide) ?_
              exact v_zret dX9_isCarriedOut_74 rfl (by decide) ⟨_, rfl, hf⟩
        · replace hf := hf.2 c133
          refine v_iconst (v := 1) dX9_isCarriedOut_48 (by decide) ?_
          refine v_goto 53 dX9_isCarriedOut_49 (by decide) ?_
          refine v_istore_n (i := 2) (lv' := [(0, va_rf (some a0)), (1, va_rf r_1), (2, .int (1 : Int32))]) dX9_isCarriedOut_53 rfl (Nat.le_of_ble_eq_true rfl) rfl rfl ?_
          refine v_iload_n (i := 2) dX9_isCarriedOut_54 rfl rfl ?_
          refine v_if_eq 66 dX9_isCarriedOut_55 (by decide) (fun c157 => ?_) (fun c157 => ?_)
          · replace hf := hf.1 c157
            refine v_qload_n (r := (some a0)) (i := 0) dX9_isCarriedOut_66 rfl rfl ?_
            refine v_qload_n (r := r_1) (i := 1) dX9_isCarriedOut_67 rfl rfl ?_
            replace hf := rv_e hf
            obtain ⟨w158, fs159, hh160, hf⟩ := hf
            obtain ⟨mc163, ms164, hkmc163, hnms164, hM⟩ := hf
            refine V.weak (k' := ((((((k - mc12) - mc51) - mc90) - mc129) - mc163) + 0) + mc163) (n' := ((((((n - ms13) - ms52) - ms91) - ms130) - ms164) + 0) + ms164) ?_ (by omega) (by omega)
            refine v_callV 1 dX9_isCarriedOut_68 hM rfl hh160 rfl (lw_V q2195 q2197 qs45 q141 q2198) rfl (by decide +kernel) (by decide) rfl (cat_len (Nat.le_of_ble_eq_true rfl)) (kk_I fun i162 h161 hg => ?_) (fun c167 q168 h161 hg => ?_)
            · have hf := hg
              clear hg
              exact v_zret dX9_isCarriedOut_71 rfl hf.1 ⟨_, rfl, hf.2⟩
            · have hf := hg
              clear hg
              obtain ⟨rfl, hf⟩ := hf
              refine vx_caught [] _ _ rfl (fun _ h => nomatch h) (by decide) (by decide) q2177 rfl q516 ?_
              refine v_astore_n (i := 3) (lv' := [(0, va_rf (some a0)), (1, va_rf r_1), (2, .int (1 : Int32)), (3, .ref q168)]) dX9_isCarriedOut_72 rfl (Nat.le_of_ble_eq_true rfl) rfl rfl ?_
              refine v_iconst (v := 0) dX9_isCarriedOut_73 (by decide) ?_
              exact v_zret dX9_isCarriedOut_74 rfl (by decide) ⟨_, rfl, hf⟩
          · replace hf := hf.2 c157
            refine v_qload_n (r := (some a0)) (i := 0) dX9_isCarriedOut_58 rfl rfl ?_
            refine v_qload_n (r := r_1) (i := 1) dX9_isCarriedOut_59 rfl rfl ?_
            replace hf := rv_e hf
            obtain ⟨w169, fs170, hh171, hf⟩ := hf
            obtain ⟨mc174, ms175, hkmc174, hnms175, hM⟩ := hf
            refine V.weak (k' := ((((((k - mc12) - mc51) - mc90) - mc129) - mc174) + 0) + mc174) (n' := ((((((n - ms13) - ms52) - ms91) - ms130) - ms175) + 0) + ms175) ?_ (by omega) (by omega)
            refine v_callV 1 dX9_isCarriedOut_60 hM rfl hh171 rfl (lw_V q2183 q2185 qs44 q141 q2186) rfl (by decide +kernel) (by decide) rfl (cat_len (Nat.le_of_ble_eq_true rfl)) (kk_I fun i173 h172 hg => ?_) (fun c178 q179 h172 hg => ?_)
            · have hf := hg
              clear hg
              refine v_goto 71 dX9_isCarriedOut_63 (by decide) ?_
              exact v_zret dX9_isCarriedOut_71 rfl hf.1 ⟨_, rfl, hf.2⟩
            · have hf := hg
              clear hg
              obtain ⟨rfl, hf⟩ := hf
              refine vx_caught [] _ _ rfl (fun _ h => nomatch h) (by decide) (by decide) q2177 rfl q516 ?_
              refine v_astore_n (i := 3) (lv' := [(0, va_rf (some a0)), (1, va_rf r_1), (2, .int (1 : Int32)), (3, .ref q179)]) dX9_isCarriedOut_72 rfl (Nat.le_of_ble_eq_true rfl) rfl rfl ?_
              refine v_iconst (v := 0) dX9_isCarriedOut_73 (by decide) ?_
              exact v_zret dX9_isCarriedOut_74 rfl (by decide) ⟨_, rfl, hf⟩
