/-! walks printed by tools/mkwalk.py -/
set_option maxRecDepth 100000
abbrev Y_J6_coder : Yt := (yJ6_coder, some (.byte), 1, 40, [])
def f_J6_coder (G : Gt) (h : Hp) (t_0 : Option Nat) (K : Int32 → Hp → Prop) : Prop :=
(((1 : Int32) = 0 → K (1 : Int32) h) ∧
(¬ ((1 : Int32) = 0) → gI h t_0 14 1 fun i2 =>
(narrow .byte (.int i2) = .int i2 ∧ K i2 h)))
theorem m_J6_coder {G : Gt} {h : Hp} {a0 : Nat} {K : Int32 → Hp → Prop} (hG : Base G) (hf : f_J6_coder G h (some a0) K) : MM G Y_J6_coder cJ6_coder 1 0 0 [.ref a0] h (kI K) xN := by
  refine mm_of hG (by decide +kernel) rfl (ac_c rfl ac_nil) (Nat.le_of_ble_eq_true rfl) (fun E _ _ => ?_)
  show V G E Y_J6_coder cJ6_coder 1 (QM G E (kI K) xN) h 0 0 0 [(0, .ref a0)] []
  unfold f_J6_coder at hf
  refine v_gets dJ6_coder_0 q1009 (List.mem_of_getElem? (i := 0) rfl) (Or.inl rfl) ?_
  refine v_if_eq 13 dJ6_coder_3 (by decide) (fun c1 => ?_) (fun c1 => ?_)
  · replace hf := hf.1 c1
    refine v_iconst (v := 1) dJ6_coder_13 (by decide) ?_
    exact v_zret dJ6_coder_14 rfl (by decide) ⟨_, rfl, hf⟩
  · replace hf := hf.2 c1
    refine v_qload_n (r := (some a0)) (i := 0) dJ6_coder_6 rfl rfl ?_
    replace hf := gI_e hf
    obtain ⟨w3, fs4, i2, hh5, hk6, hf⟩ := hf
    refine v_getf (T := TJ6) (ci := 14) 1 dJ6_coder_7 q2347 rfl in_J6 (Nat.le_of_ble_eq_true rfl) (Or.inl rfl) hh5 hk6 ?_
    refine v_goto 14 dJ6_coder_10 (by decide) ?_
    exact v_zret dJ6_coder_14 rfl hf.1 ⟨_, rfl, hf.2⟩
abbrev Y_J6_length : Yt := (yJ6_length, some (.int), 2, 60, [])
def f_J6_length (G : Gt) (h : Hp) (t_0 : Option Nat) (K : Int32 → Hp → Prop) : Prop :=
gR h t_0 14 0 fun r1 =>
aL h r1 fun i11 =>
rv h t_0 14 (f_J6_coder G h t_0 (fun i16 h15 =>
K (i11 >>> (i16 &&& 31)) h15))
theorem m_J6_length {G : Gt} {h : Hp} {a0 : Nat} {K : Int32 → Hp → Prop} (hG : Base G) (hf : f_J6_length G h (some a0) K) : MM G Y_J6_length cJ6_length 1 0 0 [.ref a0] h (kI K) xN := by
  refine mm_of hG (by decide +kernel) rfl (ac_c rfl ac_nil) (Nat.le_of_ble_eq_true rfl) (fun E _ _ => ?_)
  show V G E Y_J6_length cJ6_length 1 (QM G E (kI K) xN) h 0 0 0 [(0, .ref a0)] []
  unfold f_J6_length at hf
  refine v_qload_n (r := (some a0)) (i := 0) dJ6_length_0 rfl rfl ?_
  replace hf := gR_e hf
  obtain ⟨w2, fs3, r1, hh4, hk5, hf⟩ := hf
  refine v_getf (T := TJ6) (ci := 14) 0 dJ6_length_1 q2346 rfl in_J6 (Nat.le_of_ble_eq_true rfl) (Or.inl rfl) hh4 hk5 ?_
  obtain ⟨a6, rfl⟩ := aL_s hf
  replace hf := aL_e hf
  obtain ⟨w7, t8, x9, hh10, i11, ei11, hf⟩ := hf
  refine v_alen dJ6_length_4 hh10 ei11.symm ?_
  refine v_qload_n (r := (some a0)) (i := 0) dJ6_length_5 rfl rfl ?_
  replace hf := rv_e hf
  obtain ⟨w12, fs13, hh14, hf⟩ := hf
  refine V.addK0 ?_
  refine V.addN0 ?_
  refine v_callV (mc := 0) (ms := 0) 0 dJ6_length_6 (m_J6_coder hG hf) rfl hh14 rfl (lw_V q1199 q1200 q1201 q96 q1202) rfl (by decide +kernel) (by decide) rfl (cat_len (Nat.le_of_ble_eq_true rfl)) (kk_I fun i16 h15 hg => ?_) (fun _ _ _ hx => hx.elim)
  replace hf := hg
  clear hg
  refine v_ishr dJ6_length_9 ?_
  exact v_iret dJ6_length_10 rfl ⟨_, rfl, hf⟩
abbrev Y_J6_isLatin1 : Yt := (yJ6_isLatin1, some (.boolean), 1, 40, [])
def f_J6_isLatin1 (G : Gt) (h : Hp) (t_0 : Option Nat) (K : Int32 → Hp → Prop) : Prop :=
(((1 : Int32) = 0 → K (0 : Int32) h) ∧
(¬ ((1 : Int32) = 0) → gI h t_0 14 1 fun i2 =>
((¬ (i2 = 0) → K (0 : Int32) h) ∧
(i2 = 0 → K (1 : Int32) h))))
theorem m_J6_isLatin1 {G : Gt} {h : Hp} {a0 : Nat} {K : Int32 → Hp → Prop} (hG : Base G) (hf : f_J6_isLatin1 G h (some a0) K) : MM G Y_J6_isLatin1 cJ6_isLatin1 1 0 0 [.ref a0] h (kI K) xN := by
  refine mm_of hG (by decide +kernel) rfl (ac_c rfl ac_nil) (Nat.le_of_ble_eq_true rfl) (fun E _ _ => ?_)
  show V G E Y_J6_isLatin1 cJ6_isLatin1 1 (QM G E (kI K) xN) h 0 0 0 [(0, .ref a0)] []
  unfold f_J6_isLatin1 at hf
  refine v_gets dJ6_isLatin1_0 q1009 (List.mem_of_getElem? (i := 0) rfl) (Or.inl rfl) ?_
  refine v_if_eq 17 dJ6_isLatin1_3 (by decide) (fun c1 => ?_) (fun c1 => ?_)
  · replace hf := hf.1 c1
    refine v_iconst (v := 0) dJ6_isLatin1_17 (by decide) ?_
    exact v_zret dJ6_isLatin1_18 rfl (by decide) ⟨_, rfl, hf⟩
  · replace hf := hf.2 c1
    refine v_qload_n (r := (some a0)) (i := 0) dJ6_isLatin1_6 rfl rfl ?_
    replace hf := gI_e hf
    obtain ⟨w3, fs4, i2, hh5, hk6, hf⟩ := hf
    refine v_getf (T := TJ6) (ci := 14) 1 dJ6_isLatin1_7 q2347 rfl in_J6 (Nat.le_of_ble_eq_true rfl) (Or.inl rfl) hh5 hk6 ?_
    refine v_if_ne 17 dJ6_isLatin1_10 (by decide) (fun c7 => ?_) (fun c7 => ?_)
    · replace hf := hf.1 c7
      refine v_iconst (v := 0) dJ6_isLatin1_17 (by decide) ?_
      exact v_zret dJ6_isLatin1_18 rfl (by decide) ⟨_, rfl, hf⟩
    · replace hf := hf.2 c7
      refine v_iconst (v := 1) dJ6_isLatin1_13 (by decide) ?_
      refine v_goto 18 dJ6_isLatin1_14 (by decide) ?_
      exact v_zret dJ6_isLatin1_18 rfl (by decide) ⟨_, rfl, hf⟩
abbrev Y_J15_checkIndex : Yt := (yJ15_checkIndex, some (.int), 1, 40, [])
def f_J15_checkIndex (G : Gt) (h : Hp) (i_0 : Int32) (i_1 : Int32) (r_2 : Option Nat) (K : Int32 → Hp → Prop) : Prop :=
((i_0 < 0 → False) ∧
(¬ (i_0 < 0) → ((i_0 < i_1 → K i_0 h) ∧
(¬ (i_0 < i_1) → False))))
theorem m_J15_checkIndex {G : Gt} {h : Hp} {i_0 : Int32} {i_1 : Int32} {r_2 : Option Nat} {K : Int32 → Hp → Prop} (hG : Base G) (hf : f_J15_checkIndex G h i_0 i_1 r_2 K) : MM G Y_J15_checkIndex cJ15_checkIndex 3 0 0 [.int i_0, .int i_1, va_rf r_2] h (kI K) xN := by
  refine mm_of hG (by decide +kernel) rfl (ac_c rfl (ac_c rfl (ac_c (rf_cat _) ac_nil))) (Nat.le_of_ble_eq_true rfl) (fun E _ _ => ?_)
  show V G E Y_J15_checkIndex cJ15_checkIndex 3 (QM G E (kI K) xN) h 0 0 0 [(0, .int i_0), (1, .int i_1), (2, va_rf r_2)] []
  unfold f_J15_checkIndex at hf
  refine v_iload_n (i := 0) dJ15_checkIndex_0 rfl rfl ?_
  refine v_if_lt 9 dJ15_checkIndex_1 (by decide) (fun c1 => ?_) (fun c1 => ?_)
  · replace hf := hf.1 c1
    refine v_qload_n (r := r_2) (i := 2) dJ15_checkIndex_9 rfl rfl ?_
    refine v_iload_n (i := 0) dJ15_checkIndex_10 rfl rfl ?_
    refine v_iload_n (i := 1) dJ15_checkIndex_11 rfl rfl ?_
    exact hf.elim
  · replace hf := hf.2 c1
    refine v_iload_n (i := 0) dJ15_checkIndex_4 rfl rfl ?_
    refine v_iload_n (i := 1) dJ15_checkIndex_5 rfl rfl ?_
    refine v_icmp_lt 16 dJ15_checkIndex_6 (by decide) (fun c2 => ?_) (fun c2 => ?_)
    · replace hf := hf.1 c2
      refine v_iload_n (i := 0) dJ15_checkIndex_16 rfl rfl ?_
      exact v_iret dJ15_checkIndex_17 rfl ⟨_, rfl, hf⟩
    · replace hf := hf.2 c2
      refine v_qload_n (r := r_2) (i := 2) dJ15_checkIndex_9 rfl rfl ?_
      refine v_iload_n (i := 0) dJ15_checkIndex_10 rfl rfl ?_
      refine v_iload_n (i := 1) dJ15_checkIndex_11 rfl rfl ?_
      exact hf.elim
abbrev Y_J6_checkIndex : Yt := (yJ6_checkIndex, none, 2, 62, [])
def f_J6_checkIndex (G : Gt) (h : Hp) (i_0 : Int32) (i_1 : Int32) (K : Hp → Prop) : Prop :=
gS (g_r G 6) fun r1 =>
f_J15_checkIndex G h i_0 i_1 r1 (fun i3 h2 =>
K h2)
theorem m_J6_checkIndex {G : Gt} {h : Hp} {i_0 : Int32} {i_1 : Int32} {K : Hp → Prop} (hG : Base G) (hf : f_J6_checkIndex G h i_0 i_1 K) : MM G Y_J6_checkIndex cJ6_checkIndex 2 0 0 [.int i_0, .int i_1] h (kV K) xN := by
  refine mm_of hG (by decide +kernel) rfl (ac_c rfl (ac_c rfl ac_nil)) (Nat.le_of_ble_eq_true rfl) (fun E _ _ => ?_)
  show V G E Y_J6_checkIndex cJ6_checkIndex 2 (QM G E (kV K) xN) h 0 0 0 [(0, .int i_0), (1, .int i_1)] []
  unfold f_J6_checkIndex at hf
  refine v_iload_n (i := 0) dJ6_checkIndex_0 rfl rfl ?_
  refine v_iload_n (i := 1) dJ6_checkIndex_1 rfl rfl ?_
  refine v_gets dJ6_checkIndex_2 q1365 (List.mem_of_getElem? (i := 10) rfl) (Or.inl rfl) ?_
  replace hf := gS_e hf
  obtain ⟨r1, er1, hf⟩ := hf
  rw [← er1]
  refine V.addK0 ?_
  refine V.addN0 ?_
  refine v_callS (mc := 0) (ms := 0) 3 dJ6_checkIndex_5 (m_J15_checkIndex hG hf) rfl (lw_S q2037 q668 q109 q669) rfl (by decide +kernel) (by decide) rfl (cat_len (Nat.le_of_ble_eq_true rfl)) (kk_I fun i3 h2 hg => ?_) (fun _ _ _ hx => hx.elim)
  replace hf := hg
  clear hg
  refine v_pop dJ6_checkIndex_8 rfl ?_
  exact v_vret dJ6_checkIndex_9 rfl ⟨rfl, hf⟩
abbrev Y_J29_charAt : Yt := (yJ29_charAt, some (.char), 3, 83, [])
def f_J29_charAt (G : Gt) (h : Hp) (r_0 : Option Nat) (i_1 : Int32) (K : Int32 → Hp → Prop) : Prop :=
aL h r_0 fun i6 =>
f_J6_checkIndex G h i_1 i6 (fun h7 =>
aI h7 r_0 1 i_1 fun i13 =>
(narrow .char (.int (((i13 &&& (255 : Int32)).toUInt32 % 65536).toInt32)) = .int (((i13 &&& (255 : Int32)).toUInt32 % 65536).toInt32) ∧ K (((i13 &&& (255 : Int32)).toUInt32 % 65536).toInt32) h7))
theorem m_J29_charAt {G : Gt} {h : Hp} {r_0 : Option Nat} {i_1 : Int32} {K : Int32 → Hp → Prop} (hG : Base G) (hf : f_J29_charAt G h r_0 i_1 K) : MM G Y_J29_charAt cJ29_charAt 2 0 0 [va_rf r_0, .int i_1] h (kI K) xN := by
  refine mm_of hG (by decide +kernel) rfl (ac_c (rf_cat _) (ac_c rfl ac_nil)) (Nat.le_of_ble_eq_true rfl) (fun E _ _ => ?_)
  show V G E Y_J29_charAt cJ29_charAt 2 (QM G E (kI K) xN) h 0 0 0 [(0, va_rf r_0), (1, .int i_1)] []
  unfold f_J29_charAt at hf
  refine v_iload_n (i := 1) dJ29_charAt_0 rfl rfl ?_
  refine v_qload_n (r := r_0) (i := 0) dJ29_charAt_1 rfl rfl ?_
  obtain ⟨a1, rfl⟩ := aL_s hf
  replace hf := aL_e hf
  obtain ⟨w2, t3, x4, hh5, i6, ei6, hf⟩ := hf
  refine v_alen dJ29_charAt_2 hh5 ei6.symm ?_
  refine V.addK0 ?_
  refine V.addN0 ?_
  refine v_callS (mc := 0) (ms := 0) 2 dJ29_charAt_3 (m_J6_checkIndex hG hf) rfl (lw_S q2106 q2035 q96 q2036) rfl (by decide +kernel) (by decide) rfl (cat_len (Nat.le_of_ble_eq_true rfl)) (kk_V fun h7 hg => ?_) (fun _ _ _ hx => hx.elim)
  replace hf := hg
  clear hg
  refine v_qload_n (r := (some a1)) (i := 0) dJ29_charAt_6 rfl rfl ?_
  refine v_iload_n (i := 1) dJ29_charAt_7 rfl rfl ?_
  replace hf := aI_e hf
  obtain ⟨w8, N9, f10, hh11, hi12, i13, ei13, hf⟩ := hf
  refine v_bald dJ29_charAt_8 hh11 hi12 ?_
  rw [← ei13]
  refine v_sipush (v := 255) dJ29_charAt_9 (by decide) ?_
  refine v_iand dJ29_charAt_12 ?_
  refine v_i2c (v := ((i13 &&& (255 : Int32)).toUInt32 % 65536).toInt32) dJ29_charAt_13 rfl ?_
  exact v_zret dJ29_charAt_14 rfl hf.1 ⟨_, rfl, hf.2⟩
abbrev Y_J6_charAt : Yt := (yJ6_charAt, some (.char), 4, 104, [])
def f_J6_charAt (G : Gt) (h : Hp) (t_0 : Option Nat) (i_1 : Int32) (K : Int32 → Hp → Prop) : Prop :=
rv h t_0 14 (f_J6_isLatin1 G h t_0 (fun i5 h4 =>
((i5 = 0 → gR h4 t_0 14 0 fun r7 =>
False) ∧
(¬ (i5 = 0) → gR h4 t_0 14 0 fun r12 =>
f_J29_charAt G h4 r12 i_1 (fun i18 h17 =>
(narrow .char (.int i18) = .int i18 ∧ K i18 h17))))))
theorem m_J6_charAt {G : Gt} {h : Hp} {a0 : Nat} {i_1 : Int32} {K : Int32 → Hp → Prop} (hG : Base G) (hf : f_J6_charAt G h (some a0) i_1 K) : MM G Y_J6_charAt cJ6_charAt 2 0 0 [.ref a0, .int i_1] h (kI K) xN := by
  refine mm_of hG (by decide +kernel) rfl (ac_c rfl (ac_c rfl ac_nil)) (Nat.le_of_ble_eq_true rfl) (fun E _ _ => ?_)
  show V G E Y_J6_charAt cJ6_charAt 2 (QM G E (kI K) xN) h 0 0 0 [(0, .ref a0), (1, .int i_1)] []
  unfold f_J6_charAt at hf
  refine v_qload_n (r := (some a0)) (i := 0) dJ6_charAt_0 rfl rfl ?_
  replace hf := rv_e hf
  obtain ⟨w1, fs2, hh3, hf⟩ := hf
  refine V.addK0 ?_
  refine V.addN0 ?_
  refine v_callV (mc := 0) (ms := 0) 0 dJ6_charAt_1 (m_J6_isLatin1 hG hf) rfl hh3 rfl (lw_V q1005 q1006 q1007 q96 q1008) rfl (by decide +kernel) (by decide) rfl (cat_len (Nat.le_of_ble_eq_true rfl)) (kk_I fun i5 h4 hg => ?_) (fun _ _ _ hx => hx.elim)
  replace hf := hg
  clear hg
  refine v_if_eq 16 dJ6_charAt_4 (by decide) (fun c6 => ?_) (fun c6 => ?_)
  · replace hf := hf.1 c6
    refine v_qload_n (r := (some a0)) (i := 0) dJ6_charAt_16 rfl rfl ?_
    replace hf := gR_e hf
    obtain ⟨w8, fs9, r7, hh10, hk11, hf⟩ := hf
    refine v_getf (T := TJ6) (ci := 14) 0 dJ6_charAt_17 q2346 rfl in_J6 (Nat.le_of_ble_eq_true rfl) (Or.inl rfl) hh10 hk11 ?_
    refine v_iload_n (i := 1) dJ6_charAt_20 rfl rfl ?_
    exact hf.elim
  · replace hf := hf.2 c6
    refine v_qload_n (r := (some a0)) (i := 0) dJ6_charAt_7 rfl rfl ?_
    replace hf := gR_e hf
    obtain ⟨w13, fs14, r12, hh15, hk16, hf⟩ := hf
    refine v_getf (T := TJ6) (ci := 14) 0 dJ6_charAt_8 q2346 rfl in_J6 (Nat.le_of_ble_eq_true rfl) (Or.inl rfl) hh15 hk16 ?_
    refine v_iload_n (i := 1) dJ6_charAt_11 rfl rfl ?_
    refine V.addK0 ?_
    refine V.addN0 ?_
    refine v_callS (mc := 0) (ms := 0) 2 dJ6_charAt_12 (m_J29_charAt hG hf) rfl (lw_S q2103 q2104 q125 q2105) rfl (by decide +kernel) (by decide) rfl (cat_len (Nat.le_of_ble_eq_true rfl)) (kk_I fun i18 h17 hg => ?_) (fun _ _ _ hx => hx.elim)
    replace hf := hg
    clear hg
    exact v_zret dJ6_charAt_15 rfl hf.1 ⟨_, rfl, hf.2⟩
abbrev Y_X2_here : Yt := (yX2_here, some (.int), 1, 40, [])
def f_X2_here (G : Gt) (h : Hp) (t_0 : Option Nat) (K : Int32 → Hp → Prop) : Prop :=
gI h t_0 2 15 fun i1 =>
gI h t_0 2 10 fun i6 =>
((i6 ≤ i1 → K (-1 : Int32) h) ∧
(¬ (i6 ≤ i1) → gR h t_0 2 9 fun r12 =>
gI h t_0 2 15 fun i17 =>
aI h r12 0 i17 fun i28 =>
K i28 h))
theorem m_X2_here {G : Gt} {h : Hp} {a0 : Nat} {K : Int32 → Hp → Prop} (hG : Base G) (hf : f_X2_here G h (some a0) K) : MM G Y_X2_here cX2_here 1 0 0 [.ref a0] h (kI K) xN := by
  refine mm_of hG (by decide +kernel) rfl (ac_c rfl ac_nil) (Nat.le_of_ble_eq_true rfl) (fun E _ _ => ?_)
  show V G E Y_X2_here cX2_here 1 (QM G E (kI K) xN) h 0 0 0 [(0, .ref a0)] []
  unfold f_X2_here at hf
  refine v_qload_n (r := (some a0)) (i := 0) dX2_here_0 rfl rfl ?_
  replace hf := gI_e hf
  obtain ⟨w2, fs3, i1, hh4, hk5, hf⟩ := hf
  refine v_getf (T := TX2) (ci := 2) 15 dX2_here_1 q2503 rfl in_X2 (Nat.le_of_ble_eq_true rfl) (Or.inl rfl) hh4 hk5 ?_
  refine v_qload_n (r := (some a0)) (i := 0) dX2_here_4 rfl rfl ?_
  replace hf := gI_e hf
  obtain ⟨w7, fs8, i6, hh9, hk10, hf⟩ := hf
  refine v_getf (T := TX2) (ci := 2) 10 dX2_here_5 q2498 rfl in_X2 (Nat.le_of_ble_eq_true rfl) (Or.inl rfl) hh9 hk10 ?_
  refine v_icmp_ge 23 dX2_here_8 (by decide) (fun c11 => ?_) (fun c11 => ?_)
  · replace hf := hf.1 c11
    refine v_iconst (v := -1) dX2_here_23 (by decide) ?_
    exact v_iret dX2_here_24 rfl ⟨_, rfl, hf⟩
  · replace hf := hf.2 c11
    refine v_qload_n (r := (some a0)) (i := 0) dX2_here_11 rfl rfl ?_
    replace hf := gR_e hf
    obtain ⟨w13, fs14, r12, hh15, hk16, hf⟩ := hf
    refine v_getf (T := TX2) (ci := 2) 9 dX2_here_12 q2497 rfl in_X2 (Nat.le_of_ble_eq_true rfl) (Or.inl rfl) hh15 hk16 ?_
    refine v_qload_n (r := (some a0)) (i := 0) dX2_here_15 rfl rfl ?_
    replace hf := gI_e hf
    obtain ⟨w18, fs19, i17, hh20, hk21, hf⟩ := hf
    refine v_getf (T := TX2) (ci := 2) 15 dX2_here_16 q2503 rfl in_X2 (Nat.le_of_ble_eq_true rfl) (Or.inl rfl) hh20 hk21 ?_
    obtain ⟨a22, rfl⟩ := aI_s hf
    replace hf := aI_e hf
    obtain ⟨w23, N24, f25, hh26, hi27, i28, ei28, hf⟩ := hf
    refine v_iald dX2_here_19 hh26 hi27 ?_
    rw [← ei28]
    refine v_goto 24 dX2_here_20 (by decide) ?_
    exact v_iret dX2_here_24 rfl ⟨_, rfl, hf⟩
abbrev Y_X2_skips : Yt := (yX2_skips, some (.boolean), 2, 60, [])
def f_X2_skips (G : Gt) (h : Hp) (t_0 : Option Nat) (i_1 : Int32) (K : Int32 → Hp → Prop) : Prop :=
rv h t_0 2 (f_X2_here G h t_0 (fun i5 h4 =>
((i5 = i_1 → gI h4 t_0 2 15 fun i7 =>
pF h4 t_0 2 15 (.int (i7 + (1 : Int32))) fun h14 =>
K (1 : Int32) h14) ∧
(¬ (i5 = i_1) → K (0 : Int32) h4))))
theorem m_X2_skips {G : Gt} {h : Hp} {a0 : Nat} {i_1 : Int32} {K : Int32 → Hp → Prop} (hG : Base G) (hf : f_X2_skips G h (some a0) i_1 K) : MM G Y_X2_skips cX2_skips 2 0 0 [.ref a0, .int i_1] h (kI K) xN := by
  refine mm_of hG (by decide +kernel) rfl (ac_c rfl (ac_c rfl ac_nil)) (Nat.le_of_ble_eq_true rfl) (fun E _ _ => ?_)
  show V G E Y_X2_skips cX2_skips 2 (QM G E (kI K) xN) h 0 0 0 [(0, .ref a0), (1, .int i_1)] []
  unfold f_X2_skips at hf
  refine v_qload_n (r := (some a0)) (i := 0) dX2_skips_0 rfl rfl ?_
  replace hf := rv_e hf
  obtain ⟨w1, fs2, hh3, hf⟩ := hf
  refine V.addK0 ?_
  refine V.addN0 ?_
  refine v_callV (mc := 0) (ms := 0) 0 dX2_skips_1 (m_X2_here hG hf) rfl hh3 rfl (lw_V q2743 q2745 qs73 q98 q2746) rfl (by decide +kernel) (by decide) rfl (cat_len (Nat.le_of_ble_eq_true rfl)) (kk_I fun i5 h4 hg => ?_) (fun _ _ _ hx => hx.elim)
  replace hf := hg
  clear hg
  refine v_iload_n (i := 1) dX2_skips_4 rfl rfl ?_
  refine v_icmp_eq 10 dX2_skips_5 (by decide) (fun c6 => ?_) (fun c6 => ?_)
  · replace hf := hf.1 c6
    refine v_qload_n (r := (some a0)) (i := 0) dX2_skips_10 rfl rfl ?_
    refine v_dup dX2_skips_11 (rf_cat _) ?_
    replace hf := gI_e hf
    obtain ⟨w8, fs9, i7, hh10, hk11, hf⟩ := hf
    refine v_getf (T := TX2) (ci := 2) 15 dX2_skips_12 q2503 rfl in_X2 (Nat.le_of_ble_eq_true rfl) (Or.inl rfl) hh10 hk11 ?_
    refine v_iconst (v := 1) dX2_skips_15 (by decide) ?_
    refine v_iadd dX2_skips_16 ?_
    replace hf := pF_e hf
    obtain ⟨fs12, hh13, hf⟩ := hf
    refine v_putf (v := .int (i7 + (1 : Int32))) (T := TX2) (ci := 2) (ty := .int) 15 dX2_skips_17 q2503 rfl in_X2 tyX2 tyX2_ok nmX2 (Nat.le_of_ble_eq_true rfl) (Or.inl rfl) rfl (by decide +kernel) rfl rfl hh13 ?_
    obtain ⟨h14, eh14⟩ : ∃ z, z = hs h4 a0 (true, .inr (2, fs12.set 15 (.int (i7 + (1 : Int32))))) := ⟨_, rfl⟩
    try rw [← eh14] at hf
    rw [← eh14]
    refine v_iconst (v := 1) dX2_skips_20 (by decide) ?_
    exact v_zret dX2_skips_21 rfl (by decide) ⟨_, rfl, hf⟩
  · replace hf := hf.2 c6
    refine v_iconst (v := 0) dX2_skips_8 (by decide) ?_
    exact v_zret dX2_skips_9 rfl (by decide) ⟨_, rfl, hf⟩
abbrev Y_X2_isWord : Yt := (yX2_isWord, some (.boolean), 5, 125, [])
def g_X2_isWord_0 (G : Gt) (E : Ev) (h : Hp) (k n : Nat) (a0 : Nat) (r_1 : Option Nat) (K : Int32 → Hp → Prop) : Prop :=
V G E Y_X2_isWord cX2_isWord 3 (QM G E (kI K) xN) h k n 2 [(0, .ref a0), (1, va_rf r_1), (2, .int (0 : Int32))] []
theorem s_X2_isWord_0 {G : Gt} {E : Ev} {h : Hp} {k0 n0 : Nat} {a0 : Nat} {r_1 : Option Nat} {K : Int32 → Hp → Prop} (hG : Base G) (hA : 0 ≤ k0) (hB : 0 ≤ n0) (hf : g_X2_isWord_0 G E h (k0 - 0) (n0 - 0) a0 r_1 K) : V G E Y_X2_isWord cX2_isWord 3 (QM G E (kI K) xN) h k0 n0 0 [(0, .ref a0), (1, va_rf r_1)] [] := by
  obtain ⟨k, hk9⟩ : ∃ z, z = k0 - 0 := ⟨_, rfl⟩
  obtain ⟨n, hn9⟩ : ∃ z, z = n0 - 0 := ⟨_, rfl⟩
  rw [← hk9, ← hn9] at hf
  refine V.weak (k' := k + 0) (n' := n + 0) ?_ (by omega) (by omega)
  unfold g_X2_isWord_0 at hf
  refine v_iconst (v := 0) dX2_isWord_0 (by decide) ?_
  refine v_istore_n (i := 2) (lv' := [(0, .ref a0), (1, va_rf r_1), (2, .int (0 : Int32))]) dX2_isWord_1 rfl (Nat.le_of_ble_eq_true rfl) rfl rfl ?_
  exact V.weak hf (by omega) (by omega)
def g_X2_isWord_2 (G : Gt) (E : Ev) (h : Hp) (k n : Nat) (a0 : Nat) (r_1 : Option Nat) (i_2 : Int32) (K : Int32 → Hp → Prop) : Prop :=
rv h r_1 14 (f_J6_length G h r_1 (fun i6 h5 =>
((i6 ≤ i_2 → K (1 : Int32) h5) ∧
(¬ (i6 ≤ i_2) → rv h5 r_1 14 (f_J6_charAt G h5 r_1 i_2 (fun i12 h11 =>
rv h11 (some a0) 2 (f_X2_skips G h11 (some a0) i12 (fun i17 h16 =>
((¬ (i17 = 0) → V G E Y_X2_isWord cX2_isWord 3 (QM G E (kI K) xN) h16 k n 2 [(0, .ref a0), (1, va_rf r_1), (2, .int (i_2 + (1 : Int32)))] []) ∧
(i17 = 0 → K (0 : Int32) h16))))))))))
theorem s_X2_isWord_2 {G : Gt} {E : Ev} {h : Hp} {k0 n0 : Nat} {a0 : Nat} {r_1 : Option Nat} {i_2 : Int32} {K : Int32 → Hp → Prop} (hG : Base G) (hA : 0 ≤ k0) (hB : 0 ≤ n0) (hf : g_X2_isWord_2 G E h (k0 - 0) (n0 - 0) a0 r_1 i_2 K) : V G E Y_X2_isWord cX2_isWord 3 (QM G E (kI K) xN) h k0 n0 2 [(0, .ref a0), (1, va_rf r_1), (2, .int i_2)] [] := by
  obtain ⟨k, hk9⟩ : ∃ z, z = k0 - 0 := ⟨_, rfl⟩
  obtain ⟨n, hn9⟩ : ∃ z, z = n0 - 0 := ⟨_, rfl⟩
  rw [← hk9, ← hn9] at hf
  refine V.weak (k' := k + 0) (n' := n + 0) ?_ (by omega) (by omega)
  unfold g_X2_isWord_2 at hf
  refine v_iload_n (i := 2) dX2_isWord_2 rfl rfl ?_
  refine v_qload_n (r := r_1) (i := 1) dX2_isWord_3 rfl rfl ?_
  obtain ⟨a1, rfl⟩ := rv_s hf
  replace hf := rv_e hf
  obtain ⟨w2, fs3, hh4, hf⟩ := hf
  refine V.addK0 ?_
  refine V.addN0 ?_
  refine v_callV (mc := 0) (ms := 0) 0 dX2_isWord_4 (m_J6_length hG hf) rfl hh4 rfl (lw_V q2756 q2085 q2086 q96 q2087) rfl (by decide +kernel) (by decide) rfl (cat_len (Nat.le_of_ble_eq_true rfl)) (kk_I fun i6 h5 hg => ?_) (fun _ _ _ hx => hx.elim)
  replace hf := hg
  clear hg
  refine v_icmp_ge 30 dX2_isWord_7 (by decide) (fun c7 => ?_) (fun c7 => ?_)
  · replace hf := hf.1 c7
    refine v_iconst (v := 1) dX2_isWord_30 (by decide) ?_
    exact v_zret dX2_isWord_31 rfl (by decide) ⟨_, rfl, hf⟩
  · replace hf := hf.2 c7
    refine v_aload_n (i := 0) dX2_isWord_10 rfl rfl ?_
    refine v_qload_n (r := (some a1)) (i := 1) dX2_isWord_11 rfl rfl ?_
    refine v_iload_n (i := 2) dX2_isWord_12 rfl rfl ?_
    replace hf := rv_e hf
    obtain ⟨w8, fs9, hh10, hf⟩ := hf
    refine V.addK0 ?_
    refine V.addN0 ?_
    refine v_callV (mc := 0) (ms := 0) 1 dX2_isWord_13 (m_J6_charAt hG hf) rfl hh10 rfl (lw_V q2757 q2100 q2101 q96 q2102) rfl (by decide +kernel) (by decide) rfl (cat_len (Nat.le_of_ble_eq_true rfl)) (kk_I fun i12 h11 hg => ?_) (fun _ _ _ hx => hx.elim)
    replace hf := hg
    clear hg
    replace hf := rv_e hf
    obtain ⟨w13, fs14, hh15, hf⟩ := hf
    refine V.addK0 ?_
    refine V.addN0 ?_
    refine v_callV (mc := 0) (ms := 0) 1 dX2_isWord_16 (m_X2_skips hG hf) rfl hh15 rfl (lw_V q2739 q2741 qs72 q98 q2742) rfl (by decide +kernel) (by decide) rfl (cat_len (Nat.le_of_ble_eq_true rfl)) (kk_I fun i17 h16 hg => ?_) (fun _ _ _ hx => hx.elim)
    replace hf := hg
    clear hg
    refine v_if_ne 24 dX2_isWord_19 (by decide) (fun c18 => ?_) (fun c18 => ?_)
    · replace hf := hf.1 c18
      refine v_iinc (i := 2) (v := i_2 + (1 : Int32)) (lv' := [(0, .ref a0), (1, va_rf (some a1)), (2, .int (i_2 + (1 : Int32)))]) dX2_isWord_24 rfl rfl (Nat.le_of_ble_eq_true rfl) rfl rfl ?_
      refine v_goto 2 dX2_isWord_27 (by decide) ?_
      exact V.weak hf (by omega) (by omega)
    · replace hf := hf.2 c18
      refine v_iconst (v := 0) dX2_isWord_22 (by decide) ?_
      exact v_zret dX2_isWord_23 rfl (by decide) ⟨_, rfl, hf⟩
theorem b_X2_isWord {G : Gt} {h : Hp} {mc ms : Nat} {a0 : Nat} {r_1 : Option Nat} {K : Int32 → Hp → Prop} (hG : Base G) (hf : ∀ E : Ev, V G E Y_X2_isWord cX2_isWord 3 (QM G E (kI K) xN) h mc ms 0 [(0, .ref a0), (1, va_rf r_1)] []) : MM G Y_X2_isWord cX2_isWord 3 mc ms [.ref a0, va_rf r_1] h (kI K) xN := mm_of hG (by decide +kernel) rfl (ac_c rfl (ac_c (rf_cat _) ac_nil)) (Nat.le_of_ble_eq_true rfl) (fun E _ _ => hf E)
