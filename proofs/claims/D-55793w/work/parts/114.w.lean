/-! walks printed by tools/mkwalk.py -/
set_option maxRecDepth 100000
abbrev Y_J21_hash : Yt := (yJ21_hash, some (.int), 2, 60, [])
def f_J21_hash (G : Gt) (h : Hp) (r_0 : Option Nat) (K : Int32 → Hp → Prop) : Prop :=
((r_0 = none → K (0 : Int32) h) ∧
(∀ y1, r_0 = some y1 → rv h r_0 6 (f_X6_hashCode G h r_0 (fun i7 h6 =>
K (i7 ^^^ ((i7.toUInt32 >>> ((16 : Int32).toUInt32 &&& Int32.toUInt32 31)).toInt32)) h6))))
theorem m_J21_hash {G : Gt} {h : Hp} {r_0 : Option Nat} {K : Int32 → Hp → Prop} (hG : Base G) (hf : f_J21_hash G h r_0 K) : MM G Y_J21_hash cJ21_hash 2 0 0 [va_rf r_0] h (kI K) xN := by
  refine mm_of hG (by decide +kernel) rfl (ac_c (rf_cat _) ac_nil) (Nat.le_of_ble_eq_true rfl) (fun E _ _ => ?_)
  show V G E Y_J21_hash cJ21_hash 2 (QM G E (kI K) xN) h 0 0 0 [(0, va_rf r_0)] []
  unfold f_J21_hash at hf
  refine v_qload_n (r := r_0) (i := 0) dJ21_hash_0 rfl rfl ?_
  refine v_ifnonnull 8 dJ21_hash_1 (by decide) (fun y1 e2 => ?_) (fun e2 => ?_)
  · replace hf := hf.2 y1 e2
    subst e2
    refine v_qload_n (r := (some y1)) (i := 0) dJ21_hash_8 rfl rfl ?_
    replace hf := rv_e hf
    obtain ⟨w3, fs4, hh5, hf⟩ := hf
    refine V.addK0 ?_
    refine V.addN0 ?_
    refine v_callA (mc := 0) (ms := 0) 0 dJ21_hash_9 (m_X6_hashCode hG hf) rfl hh5 rfl (lw_U q981 q983 q991 q992 q123 q993) q980 rfl (by decide +kernel) (by decide) rfl (cat_len (Nat.le_of_ble_eq_true rfl)) (kk_I fun i7 h6 hg => ?_) (fun _ _ _ hx => hx.elim)
    replace hf := hg
    clear hg
    refine v_dup dJ21_hash_12 rfl ?_
    refine v_istore_n (i := 1) (lv' := [(0, va_rf (some y1)), (1, .int i7)]) dJ21_hash_13 rfl (Nat.le_of_ble_eq_true rfl) rfl rfl ?_
    refine v_iload_n (i := 1) dJ21_hash_14 rfl rfl ?_
    refine v_bipush (v := 16) dJ21_hash_15 (by decide) ?_
    refine v_iushr (v := (i7.toUInt32 >>> ((16 : Int32).toUInt32 &&& Int32.toUInt32 31)).toInt32) dJ21_hash_17 rfl ?_
    refine v_ixor dJ21_hash_18 ?_
    exact v_iret dJ21_hash_19 rfl ⟨_, rfl, hf⟩
  · replace hf := hf.1 e2
    subst e2
    refine v_iconst (v := 0) dJ21_hash_4 (by decide) ?_
    refine v_goto 19 dJ21_hash_5 (by decide) ?_
    exact v_iret dJ21_hash_19 rfl ⟨_, rfl, hf⟩
abbrev Y_J21_resize : Yt := (yJ21_resize, some (.array (.object "java/util/HashMap$Node")), 1, 40, [])
def g_J21_resize_0 (G : Gt) (E : Ev) (h : Hp) (k n : Nat) (a0 : Nat) (K : Option Nat → Hp → Prop) : Prop :=
gR h (some a0) 17 0 fun r1 =>
((r1 = none → gI h (some a0) 17 4 fun i8 =>
V G E Y_J21_resize cJ21_resize 14 (QM G E (kR K) xN) h k n 24 [(0, .ref a0), (1, va_rf r1), (2, .int (0 : Int32)), (3, .int i8), (5, .int (0 : Int32))] []) ∧
(∀ y6, r1 = some y6 → aL h r1 fun i17 =>
gI h (some a0) 17 4 fun i18 =>
V G E Y_J21_resize cJ21_resize 14 (QM G E (kR K) xN) h k n 24 [(0, .ref a0), (1, va_rf r1), (2, .int i17), (3, .int i18), (5, .int (0 : Int32))] []))
theorem s_J21_resize_0 {G : Gt} {E : Ev} {h : Hp} {k0 n0 : Nat} {a0 : Nat} {K : Option Nat → Hp → Prop} (hG : Base G) (hA : 0 ≤ k0) (hB : 0 ≤ n0) (hf : g_J21_resize_0 G E h (k0 - 0) (n0 - 0) a0 K) : V G E Y_J21_resize cJ21_resize 14 (QM G E (kR K) xN) h k0 n0 0 [(0, .ref a0)] [] := by
  obtain ⟨k, hk9⟩ : ∃ z, z = k0 - 0 := ⟨_, rfl⟩
  obtain ⟨n, hn9⟩ : ∃ z, z = n0 - 0 := ⟨_, rfl⟩
  rw [← hk9, ← hn9] at hf
  refine V.weak (k' := k + 0) (n' := n + 0) ?_ (by omega) (by omega)
  unfold g_J21_resize_0 at hf
  refine v_aload_n (i := 0) dJ21_resize_0 rfl rfl ?_
  replace hf := gR_e hf
  obtain ⟨w2, fs3, r1, hh4, hk5, hf⟩ := hf
  refine v_getf (T := TJ22) (ci := 17) 0 dJ21_resize_1 q820 rfl in_J22 (Nat.le_of_ble_eq_true rfl) (Or.inl rfl) hh4 hk5 ?_
  refine v_qstore_n (i := 1) (r := r1) (lv' := [(0, .ref a0), (1, va_rf r1)]) dJ21_resize_4 rfl (Nat.le_of_ble_eq_true rfl) rfl rfl ?_
  refine v_qload_n (r := r1) (i := 1) dJ21_resize_5 rfl rfl ?_
  refine v_ifnonnull 13 dJ21_resize_6 (by decide) (fun y6 e7 => ?_) (fun e7 => ?_)
  · replace hf := hf.2 y6 e7
    subst e7
    refine v_qload_n (r := (some y6)) (i := 1) dJ21_resize_13 rfl rfl ?_
    replace hf := aL_e hf
    obtain ⟨w13, t14, x15, hh16, i17, ei17, hf⟩ := hf
    refine v_alen dJ21_resize_14 hh16 ei17.symm ?_
    refine v_istore_n (i := 2) (lv' := [(0, .ref a0), (1, va_rf (some y6)), (2, .int i17)]) dJ21_resize_15 rfl (Nat.le_of_ble_eq_true rfl) rfl rfl ?_
    refine v_aload_n (i := 0) dJ21_resize_16 rfl rfl ?_
    replace hf := gI_e hf
    obtain ⟨w19, fs20, i18, hh21, hk22, hf⟩ := hf
    refine v_getf (T := TJ22) (ci := 17) 4 dJ21_resize_17 q831 rfl in_J22 (Nat.le_of_ble_eq_true rfl) (Or.inl rfl) hh21 hk22 ?_
    refine v_istore_n (i := 3) (lv' := [(0, .ref a0), (1, va_rf (some y6)), (2, .int i17), (3, .int i18)]) dJ21_resize_20 rfl (Nat.le_of_ble_eq_true rfl) rfl rfl ?_
    refine v_iconst (v := 0) dJ21_resize_21 (by decide) ?_
    refine v_istore (i := 5) (lv' := [(0, .ref a0), (1, va_rf (some y6)), (2, .int i17), (3, .int i18), (5, .int (0 : Int32))]) dJ21_resize_22 (Nat.le_of_ble_eq_true rfl) rfl rfl ?_
    exact V.weak hf (by omega) (by omega)
  · replace hf := hf.1 e7
    subst e7
    refine v_iconst (v := 0) dJ21_resize_9 (by decide) ?_
    refine v_goto 15 dJ21_resize_10 (by decide) ?_
    refine v_istore_n (i := 2) (lv' := [(0, .ref a0), (1, va_rf none), (2, .int (0 : Int32))]) dJ21_resize_15 rfl (Nat.le_of_ble_eq_true rfl) rfl rfl ?_
    refine v_aload_n (i := 0) dJ21_resize_16 rfl rfl ?_
    replace hf := gI_e hf
    obtain ⟨w9, fs10, i8, hh11, hk12, hf⟩ := hf
    refine v_getf (T := TJ22) (ci := 17) 4 dJ21_resize_17 q831 rfl in_J22 (Nat.le_of_ble_eq_true rfl) (Or.inl rfl) hh11 hk12 ?_
    refine v_istore_n (i := 3) (lv' := [(0, .ref a0), (1, va_rf none), (2, .int (0 : Int32)), (3, .int i8)]) dJ21_resize_20 rfl (Nat.le_of_ble_eq_true rfl) rfl rfl ?_
    refine v_iconst (v := 0) dJ21_resize_21 (by decide) ?_
    refine v_istore (i := 5) (lv' := [(0, .ref a0), (1, va_rf none), (2, .int (0 : Int32)), (3, .int i8), (5, .int (0 : Int32))]) dJ21_resize_22 (Nat.le_of_ble_eq_true rfl) rfl rfl ?_
    exact V.weak hf (by omega) (by omega)
def g_J21_resize_24 (G : Gt) (E : Ev) (h : Hp) (k n : Nat) (a0 : Nat) (r_1 : Option Nat) (i_2 : Int32) (i_3 : Int32) (i_5 : Int32) (K : Option Nat → Hp → Prop) : Prop :=
((i_2 ≤ 0 → ((i_3 ≤ 0 → V G E Y_J21_resize cJ21_resize 14 (QM G E (kR K) xN) h k n 85 [(0, .ref a0), (1, va_rf r_1), (2, .int i_2), (4, .int (16 : Int32)), (5, .int (12 : Int32))] []) ∧
(¬ (i_3 ≤ 0) → V G E Y_J21_resize cJ21_resize 14 (QM G E (kR K) xN) h k n 85 [(0, .ref a0), (1, va_rf r_1), (2, .int i_2), (4, .int i_3), (5, .int i_5)] []))) ∧
(¬ (i_2 ≤ 0) → ((i_2 < (1073741824 : Int32) → (((1073741824 : Int32) ≤ i_2 <<< ((1 : Int32) &&& 31) → V G E Y_J21_resize cJ21_resize 14 (QM G E (kR K) xN) h k n 85 [(0, .ref a0), (1, va_rf r_1), (2, .int i_2), (4, .int (i_2 <<< ((1 : Int32) &&& 31))), (5, .int i_5)] []) ∧
(¬ ((1073741824 : Int32) ≤ i_2 <<< ((1 : Int32) &&& 31)) → ((i_2 < (16 : Int32) → V G E Y_J21_resize cJ21_resize 14 (QM G E (kR K) xN) h k n 85 [(0, .ref a0), (1, va_rf r_1), (2, .int i_2), (4, .int (i_2 <<< ((1 : Int32) &&& 31))), (5, .int i_5)] []) ∧
(¬ (i_2 < (16 : Int32)) → V G E Y_J21_resize cJ21_resize 14 (QM G E (kR K) xN) h k n 85 [(0, .ref a0), (1, va_rf r_1), (2, .int i_2), (4, .int (i_2 <<< ((1 : Int32) &&& 31))), (5, .int (i_3 <<< ((1 : Int32) &&& 31)))] []))))) ∧
(¬ (i_2 < (1073741824 : Int32)) → pF h (some a0) 17 4 (.int (2147483647 : Int32)) fun h8 =>
K r_1 h8))))
theorem s_J21_resize_24 {G : Gt} {E : Ev} {h : Hp} {k0 n0 : Nat} {a0 : Nat} {r_1 : Option Nat} {i_2 : Int32} {i_3 : Int32} {i_5 : Int32} {K : Option Nat → Hp → Prop} (hG : Base G) (hA : 0 ≤ k0) (hB : 0 ≤ n0) (hf : g_J21_resize_24 G E h (k0 - 0) (n0 - 0) a0 r_1 i_2 i_3 i_5 K) : V G E Y_J21_resize cJ21_resize 14 (QM G E (kR K) xN) h k0 n0 24 [(0, .ref a0), (1, va_rf r_1), (2, .int i_2), (3, .int i_3), (5, .int i_5)] [] := by
  obtain ⟨k, hk9⟩ : ∃ z, z = k0 - 0 := ⟨_, rfl⟩
  obtain ⟨n, hn9⟩ : ∃ z, z = n0 - 0 := ⟨_, rfl⟩
  rw [← hk9, ← hn9] at hf
  refine V.weak (k' := k + 0) (n' := n + 0) ?_ (by omega) (by omega)
  unfold g_J21_resize_24 at hf
  refine v_iload_n (i := 2) dJ21_resize_24 rfl rfl ?_
  refine v_if_le 67 dJ21_resize_25 (by decide) (fun c1 => ?_) (fun c1 => ?_)
  · replace hf := hf.1 c1
    refine v_iload_n (i := 3) dJ21_resize_67 rfl rfl ?_
    refine v_if_le 77 dJ21_resize_68 (by decide) (fun c2 => ?_) (fun c2 => ?_)
    · replace hf := hf.1 c2
      refine v_bipush (v := 16) dJ21_resize_77 (by decide) ?_
      refine v_istore (i := 4) (lv' := [(0, .ref a0), (1, va_rf r_1), (2, .int i_2), (3, .int i_3), (4, .int (16 : Int32)), (5, .int i_5)]) dJ21_resize_79 (Nat.le_of_ble_eq_true rfl) rfl rfl ?_
      refine v_bipush (v := 12) dJ21_resize_81 (by decide) ?_
      refine v_istore (i := 5) (lv' := [(0, .ref a0), (1, va_rf r_1), (2, .int i_2), (3, .int i_3), (4, .int (16 : Int32)), (5, .int (12 : Int32))]) dJ21_resize_83 (Nat.le_of_ble_eq_true rfl) rfl rfl ?_
      refine V.lp (lv' := [(0, .ref a0), (1, va_rf r_1), (2, .int i_2), (4, .int (16 : Int32)), (5, .int (12 : Int32))]) [0, 1, 2, 4, 5] rfl ?_
      exact V.weak hf (by omega) (by omega)
    · replace hf := hf.2 c2
      refine v_iload_n (i := 3) dJ21_resize_71 rfl rfl ?_
      refine v_istore (i := 4) (lv' := [(0, .ref a0), (1, va_rf r_1), (2, .int i_2), (3, .int i_3), (4, .int i_3), (5, .int i_5)]) dJ21_resize_72 (Nat.le_of_ble_eq_true rfl) rfl rfl ?_
      refine v_goto 85 dJ21_resize_74 (by decide) ?_
      refine V.lp (lv' := [(0, .ref a0), (1, va_rf r_1), (2, .int i_2), (4, .int i_3), (5, .int i_5)]) [0, 1, 2, 4, 5] rfl ?_
      exact V.weak hf (by omega) (by omega)
  · replace hf := hf.2 c1
    refine v_iload_n (i := 2) dJ21_resize_28 rfl rfl ?_
    refine v_ldc dJ21_resize_29 q802 ?_
    refine v_icmp_lt 42 dJ21_resize_31 (by decide) (fun c3 => ?_) (fun c3 => ?_)
    · replace hf := hf.1 c3
      refine v_iload_n (i := 2) dJ21_resize_42 rfl rfl ?_
      refine v_iconst (v := 1) dJ21_resize_43 (by decide) ?_
      refine v_ishl dJ21_resize_44 ?_
      refine v_dup dJ21_resize_45 rfl ?_
      refine v_istore (i := 4) (lv' := [(0, .ref a0), (1, va_rf r_1), (2, .int i_2), (3, .int i_3), (4, .int (i_2 <<< ((1 : Int32) &&& 31))), (5, .int i_5)]) dJ21_resize_46 (Nat.le_of_ble_eq_true rfl) rfl rfl ?_
      refine v_ldc dJ21_resize_48 q802 ?_
      refine v_icmp_ge 85 dJ21_resize_50 (by decide) (fun c4 => ?_) (fun c4 => ?_)
      · replace hf := hf.1 c4
        refine V.lp (lv' := [(0, .ref a0), (1, va_rf r_1), (2, .int i_2), (4, .int (i_2 <<< ((1 : Int32) &&& 31))), (5, .int i_5)]) [0, 1, 2, 4, 5] rfl ?_
        exact V.weak hf (by omega) (by omega)
      · replace hf := hf.2 c4
        refine v_iload_n (i := 2) dJ21_resize_53 rfl rfl ?_
        refine v_bipush (v := 16) dJ21_resize_54 (by decide) ?_
        refine v_icmp_lt 85 dJ21_resize_56 (by decide) (fun c5 => ?_) (fun c5 => ?_)
        · replace hf := hf.1 c5
          refine V.lp (lv' := [(0, .ref a0), (1, va_rf r_1), (2, .int i_2), (4, .int (i_2 <<< ((1 : Int32) &&& 31))), (5, .int i_5)]) [0, 1, 2, 4, 5] rfl ?_
          exact V.weak hf (by omega) (by omega)
        · replace hf := hf.2 c5
          refine v_iload_n (i := 3) dJ21_resize_59 rfl rfl ?_
          refine v_iconst (v := 1) dJ21_resize_60 (by decide) ?_
          refine v_ishl dJ21_resize_61 ?_
          refine v_istore (i := 5) (lv' := [(0, .ref a0), (1, va_rf r_1), (2, .int i_2), (3, .int i_3), (4, .int (i_2 <<< ((1 : Int32) &&& 31))), (5, .int (i_3 <<< ((1 : Int32) &&& 31)))]) dJ21_resize_62 (Nat.le_of_ble_eq_true rfl) rfl rfl ?_
          refine v_goto 85 dJ21_resize_64 (by decide) ?_
          refine V.lp (lv' := [(0, .ref a0), (1, va_rf r_1), (2, .int i_2), (4, .int (i_2 <<< ((1 : Int32) &&& 31))), (5, .int (i_3 <<< ((1 : Int32) &&& 31)))]) [0, 1, 2, 4, 5] rfl ?_
          exact V.weak hf (by omega) (by omega)
    · replace hf := hf.2 c3
      refine v_aload_n (i := 0) dJ21_resize_34 rfl rfl ?_
      refine v_ldc dJ21_resize_35 q1081 ?_
      replace hf := pF_e hf
      obtain ⟨fs6, hh7, hf⟩ := hf
      refine v_putf (v := .int (2147483647 : Int32)) (T := TJ22) (ci := 17) (ty := .int) 4 dJ21_resize_37 q831 rfl in_J22 tyJ22 tyJ22_ok nmJ22 (Nat.le_of_ble_eq_true rfl) (Or.inl rfl) rfl (by decide +kernel) rfl rfl hh7 ?_
      obtain ⟨h8, eh8⟩ : ∃ z, z = hs h a0 (true, .inr (17, fs6.set 4 (.int (2147483647 : Int32)))) := ⟨_, rfl⟩
      try rw [← eh8] at hf
      rw [← eh8]
      refine v_qload_n (r := r_1) (i := 1) dJ21_resize_40 rfl rfl ?_
      exact v_qret (r := r_1) dJ21_resize_41 rfl (Or.inr ⟨_, rfl⟩) ⟨_, rfl, hf⟩
def g_J21_resize_85 (G : Gt) (E : Ev) (h : Hp) (k n : Nat) (a0 : Nat) (r_1 : Option Nat) (i_2 : Int32) (i_4 : Int32) (i_5 : Int32) (K : Option Nat → Hp → Prop) : Prop :=
((¬ (i_5 = 0) → V G E Y_J21_resize cJ21_resize 14 (QM G E (kR K) xN) h k n 125 [(0, .ref a0), (1, va_rf r_1), (2, .int i_2), (4, .int i_4), (5, .int i_5)] []) ∧
(i_5 = 0 → gF h (some a0) 17 5 fun f2 =>
(vf_n32 (FP.fmul (FP.i2f i_4) f2) ∧ (((1073741824 : Int32) ≤ i_4 → V G E Y_J21_resize cJ21_resize 14 (QM G E (kR K) xN) h k n 125 [(0, .ref a0), (1, va_rf r_1), (2, .int i_2), (4, .int i_4), (5, .int (2147483647 : Int32))] []) ∧
(¬ ((1073741824 : Int32) ≤ i_4) → ((0 ≤ Op.cmpValue (FP.fcmp (FP.fmul (FP.i2f i_4) f2) (1317011456 : UInt32)) .g → V G E Y_J21_resize cJ21_resize 14 (QM G E (kR K) xN) h k n 125 [(0, .ref a0), (1, va_rf r_1), (2, .int i_2), (4, .int i_4), (5, .int (2147483647 : Int32))] []) ∧
(¬ (0 ≤ Op.cmpValue (FP.fcmp (FP.fmul (FP.i2f i_4) f2) (1317011456 : UInt32)) .g) → V G E Y_J21_resize cJ21_resize 14 (QM G E (kR K) xN) h k n 125 [(0, .ref a0), (1, va_rf r_1), (2, .int i_2), (4, .int i_4), (5, .int (FP.f2i (FP.fmul (FP.i2f i_4) f2)))] [])))))))
theorem s_J21_resize_85 {G : Gt} {E : Ev} {h : Hp} {k0 n0 : Nat} {a0 : Nat} {r_1 : Option Nat} {i_2 : Int32} {i_4 : Int32} {i_5 : Int32} {K : Option Nat → Hp → Prop} (hG : Base G) (hA : 0 ≤ k0) (hB : 0 ≤ n0) (hf : g_J21_resize_85 G E h (k0 - 0) (n0 - 0) a0 r_1 i_2 i_4 i_5 K) : V G E Y_J21_resize cJ21_resize 14 (QM G E (kR K) xN) h k0 n0 85 [(0, .ref a0), (1, va_rf r_1), (2, .int i_2), (4, .int i_4), (5, .int i_5)] [] := by
  obtain ⟨k, hk9⟩ : ∃ z, z = k0 - 0 := ⟨_, rfl⟩
  obtain ⟨n, hn9⟩ : ∃ z, z = n0 - 0 := ⟨_, rfl⟩
  rw [← hk9, ← hn9] at hf
  refine V.weak (k' := k + 0) (n' := n + 0) ?_ (by omega) (by omega)
  unfold g_J21_resize_85 at hf
  refine v_iload (i := 5) dJ21_resize_85 rfl ?_
  refine v_if_ne 125 dJ21_resize_87 (by decide) (fun c1 => ?_) (fun c1 => ?_)
  · replace hf := hf.1 c1
    exact V.weak hf (by omega) (by omega)
  · replace hf := hf.2 c1
    refine v_iload (i := 4) dJ21_resize_90 rfl ?_
    refine v_i2f dJ21_resize_92 ?_
    refine v_aload_n (i := 0) dJ21_resize_93 rfl rfl ?_
    replace hf := gF_e hf
    obtain ⟨w3, fs4, f2, hh5, hk6, hf⟩ := hf
    refine v_getf (T := TJ22) (ci := 17) 5 dJ21_resize_94 q832 rfl in_J22 (Nat.le_of_ble_eq_true rfl) (Or.inl rfl) hh5 hk6 ?_
    obtain ⟨hz, hf⟩ := hf
    refine v_fmul dJ21_resize_97 hz ?_
    refine v_fstore (i := 6) (lv' := [(0, .ref a0), (1, va_rf r_1), (2, .int i_2), (4, .int i_4), (5, .int i_5), (6, .float (FP.fmul (FP.i2f i_4) f2))]) dJ21_resize_98 (Nat.le_of_ble_eq_true rfl) rfl rfl ?_
    refine v_iload (i := 4) dJ21_resize_100 rfl ?_
    refine v_ldc dJ21_resize_102 q802 ?_
    refine v_icmp_ge 121 dJ21_resize_104 (by decide) (fun c7 => ?_) (fun c7 => ?_)
    · replace hf := hf.1 c7
      refine v_ldc dJ21_resize_121 q1081 ?_
      refine v_istore (i := 5) (lv' := [(0, .ref a0), (1, va_rf r_1), (2, .int i_2), (4, .int i_4), (5, .int (2147483647 : Int32)), (6, .float (FP.fmul (FP.i2f i_4) f2))]) dJ21_resize_123 (Nat.le_of_ble_eq_true rfl) rfl rfl ?_
      refine V.lp (lv' := [(0, .ref a0), (1, va_rf r_1), (2, .int i_2), (4, .int i_4), (5, .int (2147483647 : Int32))]) [0, 1, 2, 3, 4] rfl ?_
      exact V.weak hf (by omega) (by omega)
    · replace hf := hf.2 c7
      refine v_fload (i := 6) dJ21_resize_107 rfl ?_
      refine v_ldcf dJ21_resize_109 q1082 ?_
      refine v_fcmp dJ21_resize_111 ?_
      refine v_if_ge 121 dJ21_resize_112 (by decide) (fun c8 => ?_) (fun c8 => ?_)
      · replace hf := hf.1 c8
        refine v_ldc dJ21_resize_121 q1081 ?_
        refine v_istore (i := 5) (lv' := [(0, .ref a0), (1, va_rf r_1), (2, .int i_2), (4, .int i_4), (5, .int (2147483647 : Int32)), (6, .float (FP.fmul (FP.i2f i_4) f2))]) dJ21_resize_123 (Nat.le_of_ble_eq_true rfl) rfl rfl ?_
        refine V.lp (lv' := [(0, .ref a0), (1, va_rf r_1), (2, .int i_2), (4, .int i_4), (5, .int (2147483647 : Int32))]) [0, 1, 2, 3, 4] rfl ?_
        exact V.weak hf (by omega) (by omega)
      · replace hf := hf.2 c8
        refine v_fload (i := 6) dJ21_resize_115 rfl ?_
        refine v_f2i dJ21_resize_117 ?_
        refine v_goto 123 dJ21_resize_118 (by decide) ?_
        refine v_istore (i := 5) (lv' := [(0, .ref a0), (1, va_rf r_1), (2, .int i_2), (4, .int i_4), (5, .int (FP.f2i (FP.fmul (FP.i2f i_4) f2))), (6, .float (FP.fmul (FP.i2f i_4) f2))]) dJ21_resize_123 (Nat.le_of_ble_eq_true rfl) rfl rfl ?_
        refine V.lp (lv' := [(0, .ref a0), (1, va_rf r_1), (2, .int i_2), (4, .int i_4), (5, .int (FP.f2i (FP.fmul (FP.i2f i_4) f2)))]) [0, 1, 2, 3, 4] rfl ?_
        exact V.weak hf (by omega) (by omega)
def g_J21_resize_125 (G : Gt) (E : Ev) (h : Hp) (k n : Nat) (a0 : Nat) (r_1 : Option Nat) (i_2 : Int32) (i_4 : Int32) (i_5 : Int32) (K : Option Nat → Hp → Prop) : Prop :=
pF h (some a0) 17 4 (.int i_5) fun h3 =>
nD i_4 32 fun N6 =>
nA h3 4 (N6, .inr (.inr (.inr (.inr (fun _ => none))))) fun a4 h5 =>
pF h5 (some a0) 17 0 (.ref a4) fun h9 =>
((r_1 = none → K (some a4) h9) ∧
(∀ y10, r_1 = some y10 → V G E Y_J21_resize cJ21_resize 14 (QM G E (kR K) xN) h9 k n 151 [(0, .ref a0), (1, va_rf r_1), (2, .int i_2), (4, .int i_4), (6, .ref a4), (7, .int (0 : Int32))] []))
theorem s_J21_resize_125 {G : Gt} {E : Ev} {h : Hp} {k0 n0 : Nat} {a0 : Nat} {r_1 : Option Nat} {i_2 : Int32} {i_4 : Int32} {i_5 : Int32} {K : Option Nat → Hp → Prop} (hG : Base G) (hA : 1 ≤ k0) (hB : 32 ≤ n0) (hf : g_J21_resize_125 G E h (k0 - 1) (n0 - 32) a0 r_1 i_2 i_4 i_5 K) : V G E Y_J21_resize cJ21_resize 14 (QM G E (kR K) xN) h k0 n0 125 [(0, .ref a0), (1, va_rf r_1), (2, .int i_2), (4, .int i_4), (5, .int i_5)] [] := by
  obtain ⟨k, hk9⟩ : ∃ z, z = k0 - 1 := ⟨_, rfl⟩
  obtain ⟨n, hn9⟩ : ∃ z, z = n0 - 32 := ⟨_, rfl⟩
  rw [← hk9, ← hn9] at hf
  refine V.weak (k' := k + 1) (n' := n + 32) ?_ (by omega) (by omega)
  unfold g_J21_resize_125 at hf
  refine v_aload_n (i := 0) dJ21_resize_125 rfl rfl ?_
  refine v_iload (i := 5) dJ21_resize_126 rfl ?_
  replace hf := pF_e hf
  obtain ⟨fs1, hh2, hf⟩ := hf
  refine v_putf (v := .int i_5) (T := TJ22) (ci := 17) (ty := .int) 4 dJ21_resize_128 q831 rfl in_J22 tyJ22 tyJ22_ok nmJ22 (Nat.le_of_ble_eq_true rfl) (Or.inl rfl) rfl (by decide +kernel) rfl rfl hh2 ?_
  obtain ⟨h3, eh3⟩ : ∃ z, z = hs h a0 (true, .inr (17, fs1.set 4 (.int i_5))) := ⟨_, rfl⟩
  try rw [← eh3] at hf
  rw [← eh3]
  refine v_iload (i := 4) dJ21_resize_131 rfl ?_
  obtain ⟨N6, hzN6, hbN6, hf⟩ := hf
  refine V.weakN (b := 32) hbN6 ?_
  refine v_newq (t := 4) (N := N6) dJ21_resize_133 (Nat.le_of_ble_eq_true rfl) rfl q1083 q1084 hzN6 (Nat.le_trans (Nat.mul_le_mul_right _ hbN6) (Nat.le_of_ble_eq_true rfl)) (fun a4 ha4 => ?_)
  replace hf := hf a4 ha4
  obtain ⟨h5, eh5⟩ : ∃ z, z = hs h3 a4 (true, .inl (4, (N6, .inr (.inr (.inr (.inr (fun _ => none))))))) := ⟨_, rfl⟩
  try rw [← eh5] at hf
  rw [← eh5]
  refine v_astore (i := 6) (lv' := [(0, .ref a0), (1, va_rf r_1), (2, .int i_2), (4, .int i_4), (5, .int i_5), (6, .ref a4)]) dJ21_resize_136 (Nat.le_of_ble_eq_true rfl) rfl rfl ?_
  refine v_aload_n (i := 0) dJ21_resize_138 rfl rfl ?_
  refine v_aload (i := 6) dJ21_resize_139 rfl ?_
  replace hf := pF_e hf
  obtain ⟨fs7, hh8, hf⟩ := hf
  refine v_putf (v := .ref a4) (T := TJ22) (ci := 17) (ty := .array (.object "java/util/HashMap$Node")) 0 dJ21_resize_141 q820 rfl in_J22 tyJ22 tyJ22_ok nmJ22 (Nat.le_of_ble_eq_true rfl) (Or.inl rfl) rfl (by decide +kernel) rfl rfl hh8 ?_
  obtain ⟨h9, eh9⟩ : ∃ z, z = hs h5 a0 (true, .inr (17, fs7.set 0 (.ref a4))) := ⟨_, rfl⟩
  try rw [← eh9] at hf
  rw [← eh9]
  refine v_qload_n (r := r_1) (i := 1) dJ21_resize_144 rfl rfl ?_
  refine v_ifnull 353 dJ21_resize_145 (by decide) (fun e11 => ?_) (fun y10 e11 => ?_)
  · replace hf := hf.1 e11
    subst e11
    refine v_aload (i := 6) dJ21_resize_353 rfl ?_
    exact v_qret (r := (some a4)) dJ21_resize_355 rfl (Or.inr ⟨_, rfl⟩) ⟨_, rfl, hf⟩
  · replace hf := hf.2 y10 e11
    subst e11
    refine v_iconst (v := 0) dJ21_resize_148 (by decide) ?_
    refine v_istore (i := 7) (lv' := [(0, .ref a0), (1, va_rf (some y10)), (2, .int i_2), (4, .int i_4), (5, .int i_5), (6, .ref a4), (7, .int (0 : Int32))]) dJ21_resize_149 (Nat.le_of_ble_eq_true rfl) rfl rfl ?_
    refine V.lp (lv' := [(0, .ref a0), (1, va_rf (some y10)), (2, .int i_2), (4, .int i_4), (6, .ref a4), (7, .int (0 : Int32))]) [0, 1, 2, 3, 5, 6] rfl ?_
    exact V.weak hf (by omega) (by omega)
def g_J21_resize_151 (G : Gt) (E : Ev) (h : Hp) (k n : Nat) (a0 : Nat) (r_1 : Option Nat) (i_2 : Int32) (i_4 : Int32) (r_6 : Option Nat) (i_7 : Int32) (K : Option Nat → Hp → Prop) : Prop :=
((i_2 ≤ i_7 → K r_6 h) ∧
(¬ (i_2 ≤ i_7) → aQ h r_1 i_7 fun r10 =>
((r10 = none → V G E Y_J21_resize cJ21_resize 14 (QM G E (kR K) xN) h k n 347 [(0, .ref a0), (1, va_rf r_1), (2, .int i_2), (4, .int i_4), (6, va_rf r_6), (7, .int i_7)] []) ∧
(∀ y11, r10 = some y11 → sQ h r_1 i_7 none fun h20 =>
gR h20 r10 21 3 fun r21 =>
((r21 = none → gI h20 r10 21 0 fun i28 =>
sQ h20 r_6 (i28 &&& (i_4 - (1 : Int32))) r10 fun h41 =>
V G E Y_J21_resize cJ21_resize 14 (QM G E (kR K) xN) h41 k n 347 [(0, .ref a0), (1, va_rf r_1), (2, .int i_2), (4, .int i_4), (6, va_rf r_6), (7, .int i_7)] []) ∧
(∀ y26, r21 = some y26 → rv h20 r10 21 ((((0 : Int32) = 0 → V G E Y_J21_resize cJ21_resize 14 (QM G E (kR K) xN) h20 k n 235 [(0, .ref a0), (1, va_rf r_1), (2, .int i_2), (4, .int i_4), (6, va_rf r_6), (7, .int i_7), (8, va_rf r10), (9, .null), (10, .null), (11, .null), (12, .null)] []) ∧
(¬ ((0 : Int32) = 0) → False)))))))))
theorem s_J21_resize_151 {G : Gt} {E : Ev} {h : Hp} {k0 n0 : Nat} {a0 : Nat} {r_1 : Option Nat} {i_2 : Int32} {i_4 : Int32} {r_6 : Option Nat} {i_7 : Int32} {K : Option Nat → Hp → Prop} (hG : Base G) (hA : 0 ≤ k0) (hB : 0 ≤ n0) (hf : g_J21_resize_151 G E h (k0 - 0) (n0 - 0) a0 r_1 i_2 i_4 r_6 i_7 K) : V G E Y_J21_resize cJ21_resize 14 (QM G E (kR K) xN) h k0 n0 151 [(0, .ref a0), (1, va_rf r_1), (2, .int i_2), (4, .int i_4), (6, va_rf r_6), (7, .int i_7)] [] := by
  obtain ⟨k, hk9⟩ : ∃ z, z = k0 - 0 := ⟨_, rfl⟩
  obtain ⟨n, hn9⟩ : ∃ z, z = n0 - 0 := ⟨_, rfl⟩
  rw [← hk9, ← hn9] at hf
  refine V.weak (k' := k + 0) (n' := n + 0) ?_ (by omega) (by omega)
  unfold g_J21_resize_151 at hf
  refine v_iload (i := 7) dJ21_resize_151 rfl ?_
  refine v_iload_n (i := 2) dJ21_resize_153 rfl rfl ?_
  refine v_icmp_ge 353 dJ21_resize_154 (by decide) (fun c1 => ?_) (fun c1 => ?_)
  · replace hf := hf.1 c1
    refine v_qload (r := r_6) (i := 6) dJ21_resize_353 rfl ?_
    exact v_qret (r := r_6) dJ21_resize_355 rfl (Or.inr ⟨_, rfl⟩) ⟨_, rfl, hf⟩
  · replace hf := hf.2 c1
    refine v_qload_n (r := r_1) (i := 1) dJ21_resize_157 rfl rfl ?_
    refine v_iload (i := 7) dJ21_resize_158 rfl ?_
    obtain ⟨a2, rfl⟩ := aQ_s hf
    replace hf := aQ_e hf
    obtain ⟨w3, t4, N5, f6, hh7, ht8, hi9, r10, er10, hf⟩ := hf
    refine v_aald dJ21_resize_160 ht8 hh7 hi9 ?_
    rw [← er10]
    refine v_dup dJ21_resize_161 (rf_cat _) ?_
    refine v_qstore (i := 8) (r := r10) (lv' := [(0, .ref a0), (1, va_rf (some a2)), (2, .int i_2), (4, .int i_4), (6, va_rf r_6), (7, .int i_7), (8, va_rf r10)]) dJ21_resize_162 (Nat.le_of_ble_eq_true rfl) rfl rfl ?_
    refine v_ifnull 347 dJ21_resize_164 (by decide) (fun e12 => ?_) (fun y11 e12 => ?_)
    · replace hf := hf.1 e12
      subst e12
      refine V.lp (lv' := [(0, .ref a0), (1, va_rf (some a2)), (2, .int i_2), (4, .int i_4), (6, va_rf r_6), (7, .int i_7)]) [0, 1, 2, 3, 4, 5] rfl ?_
      exact V.weak hf (by omega) (by omega)
    · replace hf := hf.2 y11 e12
      subst e12
      refine v_qload_n (r := (some a2)) (i := 1) dJ21_resize_167 rfl rfl ?_
      refine v_iload (i := 7) dJ21_resize_168 rfl ?_
      refine v_null dJ21_resize_170 ?_
      replace hf := sQ_e hf
      obtain ⟨t13, N14, f15, hh16, hD18, hi17, hy19, hf⟩ := hf
      refine v_sQ (y := none) dJ21_resize_171 hD18 hh16 hi17 hy19 ?_
      obtain ⟨h20, eh20⟩ : ∃ z, z = hs h a2 (true, .inl (t13, N14, .inr (.inr (.inr (.inr (va_up f15 (i_7).toNatClampNeg none)))))) := ⟨_, rfl⟩
      try rw [← eh20] at hf
      rw [← eh20]
      refine v_qload (r := (some y11)) (i := 8) dJ21_resize_172 rfl ?_
      replace hf := gR_e hf
      obtain ⟨w22, fs23, r21, hh24, hk25, hf⟩ := hf
      refine v_getf (T := TJ31) (ci := 21) 3 dJ21_resize_174 q1137 rfl in_J31 (Nat.le_of_ble_eq_true rfl) (Or.inl rfl) hh24 hk25 ?_
      refine v_ifnonnull 198 dJ21_resize_177 (by decide) (fun y26 e27 => ?_) (fun e27 => ?_)
      · replace hf := hf.2 y26 e27
        subst e27
        refine v_qload (r := (some y11)) (i := 8) dJ21_resize_198 rfl ?_
        replace hf := rv_e hf
        obtain ⟨w42, fs43, hh44, hf⟩ := hf
        refine v_instNo dJ21_resize_200 q1085 hh44 rfl (by decide) ?_
        refine v_if_eq 223 dJ21_resize_203 (by decide) (fun c45 => ?_) (fun c45 => ?_)
        · replace hf := hf.1 c45
          refine v_null dJ21_resize_223 ?_
          refine v_nstore (i := 9) (lv' := [(0, .ref a0), (1, va_rf (some a2)), (2, .int i_2), (4, .int i_4), (6, va_rf r_6), (7, .int i_7), (8, va_rf (some y11)), (9, .null)]) dJ21_resize_224 (Nat.le_of_ble_eq_true rfl) rfl rfl ?_
          refine v_null dJ21_resize_226 ?_
          refine v_nstore (i := 10) (lv' := [(0, .ref a0), (1, va_rf (some a2)), (2, .int i_2), (4, .int i_4), (6, va_rf r_6), (7, .int i_7), (8, va_rf (some y11)), (9, .null), (10, .null)]) dJ21_resize_227 (Nat.le_of_ble_eq_true rfl) rfl rfl ?_
          refine v_null dJ21_resize_229 ?_
          refine v_nstore (i := 11) (lv' := [(0, .ref a0), (1, va_rf (some a2)), (2, .int i_2), (4, .int i_4), (6, va_rf r_6), (7, .int i_7), (8, va_rf (some y11)), (9, .null), (10, .null), (11, .null)]) dJ21_resize_230 (Nat.le_of_ble_eq_true rfl) rfl rfl ?_
          refine v_null dJ21_resize_232 ?_
          refine v_nstore (i := 12) (lv' := [(0, .ref a0), (1, va_rf (some a2)), (2, .int i_2), (4, .int i_4), (6, va_rf r_6), (7, .int i_7), (8, va_rf (some y11)), (9, .null), (10, .null), (11, .null), (12, .null)]) dJ21_resize_233 (Nat.le_of_ble_eq_true rfl) rfl rfl ?_
          exact V.weak hf (by omega) (by omega)
        · replace hf := hf.2 c45
          refine v_qload (r := (some y11)) (i := 8) dJ21_resize_206 rfl ?_
          exact hf.elim
      · replace hf := hf.1 e27
        subst e27
        refine v_qload (r := r_6) (i := 6) dJ21_resize_180 rfl ?_
        refine v_qload (r := (some y11)) (i := 8) dJ21_resize_182 rfl ?_
        replace hf := gI_e hf
        obtain ⟨w29, fs30, i28, hh31, hk32, hf⟩ := hf
        refine v_getf (T := TJ31) (ci := 21) 0 dJ21_resize_184 q1119 rfl in_J31 (Nat.le_of_ble_eq_true rfl) (Or.inl rfl) hh31 hk32 ?_
        refine v_iload (i := 4) dJ21_resize_187 rfl ?_
        refine v_iconst (v := 1) dJ21_resize_189 (by decide) ?_
        refine v_isub dJ21_resize_190 ?_
        refine v_iand dJ21_resize_191 ?_
        refine v_qload (r := (some y11)) (i := 8) dJ21_resize_192 rfl ?_
        obtain ⟨a33, rfl⟩ := sQ_s hf
        replace hf := sQ_e hf
        obtain ⟨t34, N35, f36, hh37, hD39, hi38, hy40, hf⟩ := hf
        refine v_sQ (y := (some y11)) dJ21_resize_194 hD39 hh37 hi38 hy40 ?_
        obtain ⟨h41, eh41⟩ : ∃ z, z = hs h20 a33 (true, .inl (t34, N35, .inr (.inr (.inr (.inr (va_up f36 (i28 &&& (i_4 - (1 : Int32))).toNatClampNeg (some y11))))))) := ⟨_, rfl⟩
        try rw [← eh41] at hf
        rw [← eh41]
        refine v_goto 347 dJ21_resize_195 (by decide) ?_
        refine V.lp (lv' := [(0, .ref a0), (1, va_rf (some a2)), (2, .int i_2), (4, .int i_4), (6, va_rf (some a33)), (7, .int i_7)]) [0, 1, 2, 3, 4, 5] rfl ?_
        exact V.weak hf (by omega) (by omega)
def g_J21_resize_235 (G : Gt) (E : Ev) (h : Hp) (k n : Nat) (a0 : Nat) (r_1 : Option Nat) (i_2 : Int32) (i_4 : Int32) (r_6 : Option Nat) (i_7 : Int32) (r_8 : Option Nat) (r_9 : Option Nat) (r_10 : Option Nat) (r_11 : Option Nat) (r_12 : Option Nat) (K : Option Nat → Hp → Prop) : Prop :=
gR h r_8 21 3 fun r1 =>
gI h r_8 21 0 fun i7 =>
((¬ (i7 &&& i_2 = 0) → ((r_12 = none → V G E Y_J21_resize cJ21_resize 14 (QM G E (kR K) xN) h k n 301 [(0, .ref a0), (1, va_rf r_1), (2, .int i_2), (4, .int i_4), (6, va_rf r_6), (7, .int i_7), (9, va_rf r_9), (10, va_rf r_10), (11, va_rf r_8), (12, va_rf r_8), (13, va_rf r1)] []) ∧
(∀ y13, r_12 = some y13 → pF h r_12 21 3 (va_rf r_8) fun h17 =>
V G E Y_J21_resize cJ21_resize 14 (QM G E (kR K) xN) h17 k n 301 [(0, .ref a0), (1, va_rf r_1), (2, .int i_2), (4, .int i_4), (6, va_rf r_6), (7, .int i_7), (9, va_rf r_9), (10, va_rf r_10), (11, va_rf r_11), (12, va_rf r_8), (13, va_rf r1)] []))) ∧
(i7 &&& i_2 = 0 → ((r_10 = none → V G E Y_J21_resize cJ21_resize 14 (QM G E (kR K) xN) h k n 301 [(0, .ref a0), (1, va_rf r_1), (2, .int i_2), (4, .int i_4), (6, va_rf r_6), (7, .int i_7), (9, va_rf r_8), (10, va_rf r_8), (11, va_rf r_11), (12, va_rf r_12), (13, va_rf r1)] []) ∧
(∀ y18, r_10 = some y18 → pF h r_10 21 3 (va_rf r_8) fun h22 =>
V G E Y_J21_resize cJ21_resize 14 (QM G E (kR K) xN) h22 k n 301 [(0, .ref a0), (1, va_rf r_1), (2, .int i_2), (4, .int i_4), (6, va_rf r_6), (7, .int i_7), (9, va_rf r_9), (10, va_rf r_8), (11, va_rf r_11), (12, va_rf r_12), (13, va_rf r1)] []))))
theorem s_J21_resize_235 {G : Gt} {E : Ev} {h : Hp} {k0 n0 : Nat} {a0 : Nat} {r_1 : Option Nat} {i_2 : Int32} {i_4 : Int32} {r_6 : Option Nat} {i_7 : Int32} {r_8 : Option Nat} {r_9 : Option Nat} {r_10 : Option Nat} {r_11 : Option Nat} {r_12 : Option Nat} {K : Option Nat → Hp → Prop} (hG : Base G) (hA : 0 ≤ k0) (hB : 0 ≤ n0) (hf : g_J21_resize_235 G E h (k0 - 0) (n0 - 0) a0 r_1 i_2 i_4 r_6 i_7 r_8 r_9 r_10 r_11 r_12 K) : V G E Y_J21_resize cJ21_resize 14 (QM G E (kR K) xN) h k0 n0 235 [(0, .ref a0), (1, va_rf r_1), (2, .int i_2), (4, .int i_4), (6, va_rf r_6), (7, .int i_7), (8, va_rf r_8), (9, va_rf r_9), (10, va_rf r_10), (11, va_rf r_11), (12, va_rf r_12)] [] := by
  obtain ⟨k, hk9⟩ : ∃ z, z = k0 - 0 := ⟨_, rfl⟩
  obtain ⟨n, hn9⟩ : ∃ z, z = n0 - 0 := ⟨_, rfl⟩
  rw [← hk9, ← hn9] at hf
  refine V.weak (k' := k + 0) (n' := n + 0) ?_ (by omega) (by omega)
  unfold g_J21_resize_235 at hf
  refine v_qload (r := r_8) (i := 8) dJ21_resize_235 rfl ?_
  obtain ⟨a2, rfl⟩ := gR_s hf
  replace hf := gR_e hf
  obtain ⟨w3, fs4, r1, hh5, hk6, hf⟩ := hf
  refine v_getf (T := TJ31) (ci := 21) 3 dJ21_resize_237 q1137 rfl in_J31 (Nat.le_of_ble_eq_true rfl) (Or.inl rfl) hh5 hk6 ?_
  refine v_qstore (i := 13) (r := r1) (lv' := [(0, .ref a0), (1, va_rf r_1), (2, .int i_2), (4, .int i_4), (6, va_rf r_6), (7, .int i_7), (8, va_rf (some a2)), (9, va_rf r_9), (10, va_rf r_10), (11, va_rf r_11), (12, va_rf r_12), (13, va_rf r1)]) dJ21_resize_240 (Nat.le_of_ble_eq_true rfl) rfl rfl ?_
  refine v_qload (r := (some a2)) (i := 8) dJ21_resize_242 rfl ?_
  replace hf := gI_e hf
  obtain ⟨w8, fs9, i7, hh10, hk11, hf⟩ := hf
  refine v_getf (T := TJ31) (ci := 21) 0 dJ21_resize_244 q1119 rfl in_J31 (Nat.le_of_ble_eq_true rfl) (Or.inl rfl) hh10 hk11 ?_
  refine v_iload_n (i := 2) dJ21_resize_247 rfl rfl ?_
  refine v_iand dJ21_resize_248 ?_
  refine v_if_ne 278 dJ21_resize_249 (by decide) (fun c12 => ?_) (fun c12 => ?_)
  · replace hf := hf.1 c12
    refine v_qload (r := r_12) (i := 12) dJ21_resize_278 rfl ?_
    refine v_ifnonnull 290 dJ21_resize_280 (by decide) (fun y13 e14 => ?_) (fun e14 => ?_)
    · replace hf := hf.2 y13 e14
      subst e14
      refine v_qload (r := (some y13)) (i := 12) dJ21_resize_290 rfl ?_
      refine v_qload (r := (some a2)) (i := 8) dJ21_resize_292 rfl ?_
      replace hf := pF_e hf
      obtain ⟨fs15, hh16, hf⟩ := hf
      refine v_putf (v := va_rf (some a2)) (T := TJ31) (ci := 21) (ty := .object "java/util/HashMap$Node") 3 dJ21_resize_294 q1137 rfl in_J31 tyJ31 tyJ31_ok nmJ31 (Nat.le_of_ble_eq_true rfl) (Or.inl rfl) rfl (by decide +kernel) (rf_nar _ _) (rf_fit _ _) hh16 ?_
      obtain ⟨h17, eh17⟩ : ∃ z, z = hs h y13 (true, .inr (21, fs15.set 3 (va_rf (some a2)))) := ⟨_, rfl⟩
      try rw [← eh17] at hf
      rw [← eh17]
      refine v_qload (r := (some a2)) (i := 8) dJ21_resize_297 rfl ?_
      refine v_qstore (i := 12) (r := (some a2)) (lv' := [(0, .ref a0), (1, va_rf r_1), (2, .int i_2), (4, .int i_4), (6, va_rf r_6), (7, .int i_7), (8, va_rf (some a2)), (9, va_rf r_9), (10, va_rf r_10), (11, va_rf r_11), (12, va_rf (some a2)), (13, va_rf r1)]) dJ21_resize_299 (Nat.le_of_ble_eq_true rfl) rfl rfl ?_
      refine V.lp (lv' := [(0, .ref a0), (1, va_rf r_1), (2, .int i_2), (4, .int i_4), (6, va_rf r_6), (7, .int i_7), (9, va_rf r_9), (10, va_rf r_10), (11, va_rf r_11), (12, va_rf (some a2)), (13, va_rf r1)]) [0, 1, 2, 3, 4, 5, 7, 8, 9, 10, 11] rfl ?_
      exact V.weak hf (by omega) (by omega)
    · replace hf := hf.1 e14
      subst e14
      refine v_qload (r := (some a2)) (i := 8) dJ21_resize_283 rfl ?_
      refine v_qstore (i := 11) (r := (some a2)) (lv' := [(0, .ref a0), (1, va_rf r_1), (2, .int i_2), (4, .int i_4), (6, va_rf r_6), (7, .int i_7), (8, va_rf (some a2)), (9, va_rf r_9), (10, va_rf r_10), (11, va_rf (some a2)), (12, va_rf none), (13, va_rf r1)]) dJ21_resize_285 (Nat.le_of_ble_eq_true rfl) rfl rfl ?_
      refine v_goto 297 dJ21_resize_287 (by decide) ?_
      refine v_qload (r := (some a2)) (i := 8) dJ21_resize_297 rfl ?_
      refine v_qstore (i := 12) (r := (some a2)) (lv' := [(0, .ref a0), (1, va_rf r_1), (2, .int i_2), (4, .int i_4), (6, va_rf r_6), (7, .int i_7), (8, va_rf (some a2)), (9, va_rf r_9), (10, va_rf r_10), (11, va_rf (some a2)), (12, va_rf (some a2)), (13, va_rf r1)]) dJ21_resize_299 (Nat.le_of_ble_eq_true rfl) rfl rfl ?_
      refine V.lp (lv' := [(0, .ref a0), (1, va_rf r_1), (2, .int i_2), (4, .int i_4), (6, va_rf r_6), (7, .int i_7), (9, va_rf r_9), (10, va_rf r_10), (11, va_rf (some a2)), (12, va_rf (some a2)), (13, va_rf r1)]) [0, 1, 2, 3, 4, 5, 7, 8, 9, 10, 11] rfl ?_
      exact V.weak hf (by omega) (by omega)
  · replace hf := hf.2 c12
    refine v_qload (r := r_10) (i := 10) dJ21_resize_252 rfl ?_
    refine v_ifnonnull 264 dJ21_resize_254 (by decide) (fun y18 e19 => ?_) (fun e19 => ?_)
    · replace hf := hf.2 y18 e19
      subst e19
      refine v_qload (r := (some y18)) (i := 10) dJ21_resize_264 rfl ?_
      refine v_qload (r := (some a2)) (i := 8) dJ21_resize_266 rfl ?_
      replace hf := pF_e hf
      obtain ⟨fs20, hh21, hf⟩ := hf
      refine v_putf (v := va_rf (some a2)) (T := TJ31) (ci := 21) (ty := .object "java/util/HashMap$Node") 3 dJ21_resize_268 q1137 rfl in_J31 tyJ31 tyJ31_ok nmJ31 (Nat.le_of_ble_eq_true rfl) (Or.inl rfl) rfl (by decide +kernel) (rf_nar _ _) (rf_fit _ _) hh21 ?_
      obtain ⟨h22, eh22⟩ : ∃ z, z = hs h y18 (true, .inr (21, fs20.set 3 (va_rf (some a2)))) := ⟨_, rfl⟩
      try rw [← eh22] at hf
      rw [← eh22]
      refine v_qload (r := (some a2)) (i := 8) dJ21_resize_271 rfl ?_
      refine v_qstore (i := 10) (r := (some a2)) (lv' := [(0, .ref a0), (1, va_rf r_1), (2, .int i_2), (4, .int i_4), (6, va_rf r_6), (7, .int i_7), (8, va_rf (some a2)), (9, va_rf r_9), (10, va_rf (some a2)), (11, va_rf r_11), (12, va_rf r_12), (13, va_rf r1)]) dJ21_resize_273 (Nat.le_of_ble_eq_true rfl) rfl rfl ?_
      refine v_goto 301 dJ21_resize_275 (by decide) ?_
      refine V.lp (lv' := [(0, .ref a0), (1, va_rf r_1), (2, .int i_2), (4, .int i_4), (6, va_rf r_6), (7, .int i_7), (9, va_rf r_9), (10, va_rf (some a2)), (11, va_rf r_11), (12, va_rf r_12), (13, va_rf r1)]) [0, 1, 2, 3, 4, 5, 7, 8, 9, 10, 11] rfl ?_
      exact V.weak hf (by omega) (by omega)
    · replace hf := hf.1 e19
      subst e19
      refine v_qload (r := (some a2)) (i := 8) dJ21_resize_257 rfl ?_
      refine v_qstore (i := 9) (r := (some a2)) (lv' := [(0, .ref a0), (1, va_rf r_1), (2, .int i_2), (4, .int i_4), (6, va_rf r_6), (7, .int i_7), (8, va_rf (some a2)), (9, va_rf (some a2)), (10, va_rf none), (11, va_rf r_11), (12, va_rf r_12), (13, va_rf r1)]) dJ21_resize_259 (Nat.le_of_ble_eq_true rfl) rfl rfl ?_
      refine v_goto 271 dJ21_resize_261 (by decide) ?_
      refine v_qload (r := (some a2)) (i := 8) dJ21_resize_271 rfl ?_
      refine v_qstore (i := 10) (r := (some a2)) (lv' := [(0, .ref a0), (1, va_rf r_1), (2, .int i_2), (4, .int i_4), (6, va_rf r_6), (7, .int i_7), (8, va_rf (some a2)), (9, va_rf (some a2)), (10, va_rf (some a2)), (11, va_rf r_11), (12, va_rf r_12), (13, va_rf r1)]) dJ21_resize_273 (Nat.le_of_ble_eq_true rfl) rfl rfl ?_
      refine v_goto 301 dJ21_resize_275 (by decide) ?_
      refine V.lp (lv' := [(0, .ref a0), (1, va_rf r_1), (2, .int i_2), (4, .int i_4), (6, va_rf r_6), (7, .int i_7), (9, va_rf (some a2)), (10, va_rf (some a2)), (11, va_rf r_11), (12, va_rf r_12), (13, va_rf r1)]) [0, 1, 2, 3, 4, 5, 7, 8, 9, 10, 11] rfl ?_
      exact V.weak hf (by omega) (by omega)
def g_J21_resize_301 (G : Gt) (E : Ev) (h : Hp) (k n : Nat) (a0 : Nat) (r_1 : Option Nat) (i_2 : Int32) (i_4 : Int32) (r_6 : Option Nat) (i_7 : Int32) (r_9 : Option Nat) (r_10 : Option Nat) (r_11 : Option Nat) (r_12 : Option Nat) (r_13 : Option Nat) (K : Option Nat → Hp → Prop) : Prop :=
((r_13 = none → ((r_10 = none → ((r_12 = none → V G E Y_J21_resize cJ21_resize 14 (QM G E (kR K) xN) h k n 347 [(0, .ref a0), (1, va_rf r_1), (2, .int i_2), (4, .int i_4), (6, va_rf r_6), (7, .int i_7)] []) ∧
(∀ y5, r_12 = some y5 → pF h r_12 21 3 (.null) fun h9 =>
sQ h9 r_6 (i_7 + i_2) r_11 fun h18 =>
V G E Y_J21_resize cJ21_resize 14 (QM G E (kR K) xN) h18 k n 347 [(0, .ref a0), (1, va_rf r_1), (2, .int i_2), (4, .int i_4), (6, va_rf r_6), (7, .int i_7)] []))) ∧
(∀ y3, r_10 = some y3 → pF h r_10 21 3 (.null) fun h21 =>
sQ h21 r_6 i_7 r_9 fun h30 =>
((r_12 = none → V G E Y_J21_resize cJ21_resize 14 (QM G E (kR K) xN) h30 k n 347 [(0, .ref a0), (1, va_rf r_1), (2, .int i_2), (4, .int i_4), (6, va_rf r_6), (7, .int i_7)] []) ∧
(∀ y31, r_12 = some y31 → pF h30 r_12 21 3 (.null) fun h35 =>
sQ h35 r_6 (i_7 + i_2) r_11 fun h43 =>
V G E Y_J21_resize cJ21_resize 14 (QM G E (kR K) xN) h43 k n 347 [(0, .ref a0), (1, va_rf r_1), (2, .int i_2), (4, .int i_4), (6, va_rf r_6), (7, .int i_7)] []))))) ∧
(∀ y1, r_13 = some y1 → V G E Y_J21_resize cJ21_resize 14 (QM G E (kR K) xN) h k n 235 [(0, .ref a0), (1, va_rf r_1), (2, .int i_2), (4, .int i_4), (6, va_rf r_6), (7, .int i_7), (8, va_rf r_13), (9, va_rf r_9), (10, va_rf r_10), (11, va_rf r_11), (12, va_rf r_12)] []))
theorem s_J21_resize_301 {G : Gt} {E : Ev} {h : Hp} {k0 n0 : Nat} {a0 : Nat} {r_1 : Option Nat} {i_2 : Int32} {i_4 : Int32} {r_6 : Option Nat} {i_7 : Int32} {r_9 : Option Nat} {r_10 : Option Nat} {r_11 : Option Nat} {r_12 : Option Nat} {r_13 : Option Nat} {K : Option Nat → Hp → Prop} (hG : Base G) (hA : 0 ≤ k0) (hB : 0 ≤ n0) (hf : g_J21_resize_301 G E h (k0 - 0) (n0 - 0) a0 r_1 i_2 i_4 r_6 i_7 r_9 r_10 r_11 r_12 r_13 K) : V G E Y_J21_resize cJ21_resize 14 (QM G E (kR K) xN) h k0 n0 301 [(0, .ref a0), (1, va_rf r_1), (2, .int i_2), (4, .int i_4), (6, va_rf r_6), (7, .int i_7), (9, va_rf r_9), (10, va_rf r_10), (11, va_rf r_11), (12, va_rf r_12), (13, va_rf r_13)] [] := by
  obtain ⟨k, hk9⟩ : ∃ z, z = k0 - 0 := ⟨_, rfl⟩
  obtain ⟨n, hn9⟩ : ∃ z, z = n0 - 0 := ⟨_, rfl⟩
  rw [← hk9, ← hn9] at hf
  refine V.weak (k' := k + 0) (n' := n + 0) ?_ (by omega) (by omega)
  unfold g_J21_resize_301 at hf
  refine v_qload (r := r_13) (i := 13) dJ21_resize_301 rfl ?_
  refine v_dup dJ21_resize_303 (rf_cat _) ?_
  refine v_qstore (i := 8) (r := r_13) (lv' := [(0, .ref a0), (1, va_rf r_1), (2, .int i_2), (4, .int i_4), (6, va_rf r_6), (7, .int i_7), (8, va_rf r_13), (9, va_rf r_9), (10, va_rf r_10), (11, va_rf r_11), (12, va_rf r_12), (13, va_rf r_13)]) dJ21_resize_304 (Nat.le_of_ble_eq_true rfl) rfl rfl ?_
  refine v_ifnonnull 235 dJ21_resize_306 (by decide) (fun y1 e2 => ?_) (fun e2 => ?_)
  · replace hf := hf.2 y1 e2
    subst e2
    refine V.lp (lv' := [(0, .ref a0), (1, va_rf r_1), (2, .int i_2), (4, .int i_4), (6, va_rf r_6), (7, .int i_7), (8, va_rf (some y1)), (9, va_rf r_9), (10, va_rf r_10), (11, va_rf r_11), (12, va_rf r_12)]) [0, 1, 2, 3, 4, 5, 6, 7, 8, 9, 10] rfl ?_
    exact V.weak hf (by omega) (by omega)
  · replace hf := hf.1 e2
    subst e2
    refine v_qload (r := r_10) (i := 10) dJ21_resize_309 rfl ?_
    refine v_ifnull 327 dJ21_resize_311 (by decide) (fun e4 => ?_) (fun y3 e4 => ?_)
    · replace hf := hf.1 e4
      subst e4
      refine v_qload (r := r_12) (i := 12) dJ21_resize_327 rfl ?_
      refine v_ifnull 347 dJ21_resize_329 (by decide) (fun e6 => ?_) (fun y5 e6 => ?_)
      · replace hf := hf.1 e6
        subst e6
        refine V.lp (lv' := [(0, .ref a0), (1, va_rf r_1), (2, .int i_2), (4, .int i_4), (6, va_rf r_6), (7, .int i_7)]) [0, 1, 2, 3, 4, 5] rfl ?_
        exact V.weak hf (by omega) (by omega)
      · replace hf := hf.2 y5 e6
        subst e6
        refine v_qload (r := (some y5)) (i := 12) dJ21_resize_332 rfl ?_
        refine v_null dJ21_resize_334 ?_
        replace hf := pF_e hf
        obtain ⟨fs7, hh8, hf⟩ := hf
        refine v_putf (v := .null) (T := TJ31) (ci := 21) (ty := .object "java/util/HashMap$Node") 3 dJ21_resize_335 q1137 rfl in_J31 tyJ31 tyJ31_ok nmJ31 (Nat.le_of_ble_eq_true rfl) (Or.inl rfl) rfl (by decide +kernel) rfl rfl hh8 ?_
        obtain ⟨h9, eh9⟩ : ∃ z, z = hs h y5 (true, .inr (21, fs7.set 3 (.null))) := ⟨_, rfl⟩
        try rw [← eh9] at hf
        rw [← eh9]
        refine v_qload (r := r_6) (i := 6) dJ21_resize_338 rfl ?_
        refine v_iload (i := 7) dJ21_resize_340 rfl ?_
        refine v_iload_n (i := 2) dJ21_resize_342 rfl rfl ?_
        refine v_iadd dJ21_resize_343 ?_
        refine v_qload (r := r_11) (i := 11) dJ21_resize_344 rfl ?_
        obtain ⟨a10, rfl⟩ := sQ_s hf
        replace hf := sQ_e hf
        obtain ⟨t11, N12, f13, hh14, hD16, hi15, hy17, hf⟩ := hf
        refine v_sQ (y := r_11) dJ21_resize_346 hD16 hh14 hi15 hy17 ?_
        obtain ⟨h18, eh18⟩ : ∃ z, z = hs h9 a10 (true, .inl (t11, N12, .inr (.inr (.inr (.inr (va_up f13 (i_7 + i_2).toNatClampNeg r_11)))))) := ⟨_, rfl⟩
        try rw [← eh18] at hf
        rw [← eh18]
        refine V.lp (lv' := [(0, .ref a0), (1, va_rf r_1), (2, .int i_2), (4, .int i_4), (6, va_rf (some a10)), (7, .int i_7)]) [0, 1, 2, 3, 4, 5] rfl ?_
        exact V.weak hf (by omega) (by omega)
    · replace hf := hf.2 y3 e4
      subst e4
      refine v_qload (r := (some y3)) (i := 10) dJ21_resize_314 rfl ?_
      refine v_null dJ21_resize_316 ?_
      replace hf := pF_e hf
      obtain ⟨fs19, hh20, hf⟩ := hf
      refine v_putf (v := .null) (T := TJ31) (ci := 21) (ty := .object "java/util/HashMap$Node") 3 dJ21_resize_317 q1137 rfl in_J31 tyJ31 tyJ31_ok nmJ31 (Nat.le_of_ble_eq_true rfl) (Or.inl rfl) rfl (by decide +kernel) rfl rfl hh20 ?_
      obtain ⟨h21, eh21⟩ : ∃ z, z = hs h y3 (true, .inr (21, fs19.set 3 (.null))) := ⟨_, rfl⟩
      try rw [← eh21] at hf
      rw [← eh21]
      refine v_qload (r := r_6) (i := 6) dJ21_resize_320 rfl ?_
      refine v_iload (i := 7) dJ21_resize_322 rfl ?_
      refine v_qload (r := r_9) (i := 9) dJ21_resize_324 rfl ?_
      obtain ⟨a22, rfl⟩ := sQ_s hf
      replace hf := sQ_e hf
      obtain ⟨t23, N24, f25, hh26, hD28, hi27, hy29, hf⟩ := hf
      refine v_sQ (y := r_9) dJ21_resize_326 hD28 hh26 hi27 hy29 ?_
      obtain ⟨h30, eh30⟩ : ∃ z, z = hs h21 a22 (true, .inl (t23, N24, .inr (.inr (.inr (.inr (va_up f25 (i_7).toNatClampNeg r_9)))))) := ⟨_, rfl⟩
      try rw [← eh30] at hf
      rw [← eh30]
      refine v_qload (r := r_12) (i := 12) dJ21_resize_327 rfl ?_
      refine v_ifnull 347 dJ21_resize_329 (by decide) (fun e32 => ?_) (fun y31 e32 => ?_)
      · replace hf := hf.1 e32
        subst e32
        refine V.lp (lv' := [(0, .ref a0), (1, va_rf r_1), (2, .int i_2), (4, .int i_4), (6, va_rf (some a22)), (7, .int i_7)]) [0, 1, 2, 3, 4, 5] rfl ?_
        exact V.weak hf (by omega) (by omega)
      · replace hf := hf.2 y31 e32
        subst e32
        refine v_qload (r := (some y31)) (i := 12) dJ21_resize_332 rfl ?_
        refine v_null dJ21_resize_334 ?_
        replace hf := pF_e hf
        obtain ⟨fs33, hh34, hf⟩ := hf
        refine v_putf (v := .null) (T := TJ31) (ci := 21) (ty := .object "java/util/HashMap$Node") 3 dJ21_resize_335 q1137 rfl in_J31 tyJ31 tyJ31_ok nmJ31 (Nat.le_of_ble_eq_true rfl) (Or.inl rfl) rfl (by decide +kernel) rfl rfl hh34 ?_
        obtain ⟨h35, eh35⟩ : ∃ z, z = hs h30 y31 (true, .inr (21, fs33.set 3 (.null))) := ⟨_, rfl⟩
        try rw [← eh35] at hf
        rw [← eh35]
        refine v_qload (r := (some a22)) (i := 6) dJ21_resize_338 rfl ?_
        refine v_iload (i := 7) dJ21_resize_340 rfl ?_
        refine v_iload_n (i := 2) dJ21_resize_342 rfl rfl ?_
        refine v_iadd dJ21_resize_343 ?_
        refine v_qload (r := r_11) (i := 11) dJ21_resize_344 rfl ?_
        replace hf := sQ_e hf
        obtain ⟨t36, N37, f38, hh39, hD41, hi40, hy42, hf⟩ := hf
        refine v_sQ (y := r_11) dJ21_resize_346 hD41 hh39 hi40 hy42 ?_
        obtain ⟨h43, eh43⟩ : ∃ z, z = hs h35 a22 (true, .inl (t36, N37, .inr (.inr (.inr (.inr (va_up f38 (i_7 + i_2).toNatClampNeg r_11)))))) := ⟨_, rfl⟩
        try rw [← eh43] at hf
        rw [← eh43]
        refine V.lp (lv' := [(0, .ref a0), (1, va_rf r_1), (2, .int i_2), (4, .int i_4), (6, va_rf (some a22)), (7, .int i_7)]) [0, 1, 2, 3, 4, 5] rfl ?_
        exact V.weak hf (by omega) (by omega)
def g_J21_resize_347 (G : Gt) (E : Ev) (h : Hp) (k n : Nat) (a0 : Nat) (r_1 : Option Nat) (i_2 : Int32) (i_4 : Int32) (r_6 : Option Nat) (i_7 : Int32) (K : Option Nat → Hp → Prop) : Prop :=
V G E Y_J21_resize cJ21_resize 14 (QM G E (kR K) xN) h k n 151 [(0, .ref a0), (1, va_rf r_1), (2, .int i_2), (4, .int i_4), (6, va_rf r_6), (7, .int (i_7 + (1 : Int32)))] []
theorem s_J21_resize_347 {G : Gt} {E : Ev} {h : Hp} {k0 n0 : Nat} {a0 : Nat} {r_1 : Option Nat} {i_2 : Int32} {i_4 : Int32} {r_6 : Option Nat} {i_7 : Int32} {K : Option Nat → Hp → Prop} (hG : Base G) (hA : 0 ≤ k0) (hB : 0 ≤ n0) (hf : g_J21_resize_347 G E h (k0 - 0) (n0 - 0) a0 r_1 i_2 i_4 r_6 i_7 K) : V G E Y_J21_resize cJ21_resize 14 (QM G E (kR K) xN) h k0 n0 347 [(0, .ref a0), (1, va_rf r_1), (2, .int i_2), (4, .int i_4), (6, va_rf r_6), (7, .int i_7)] [] := by
  obtain ⟨k, hk9⟩ : ∃ z, z = k0 - 0 := ⟨_, rfl⟩
  obtain ⟨n, hn9⟩ : ∃ z, z = n0 - 0 := ⟨_, rfl⟩
  rw [← hk9, ← hn9] at hf
  refine V.weak (k' := k + 0) (n' := n + 0) ?_ (by omega) (by omega)
  unfold g_J21_resize_347 at hf
  refine v_iinc (i := 7) (v := i_7 + (1 : Int32)) (lv' := [(0, .ref a0), (1, va_rf r_1), (2, .int i_2), (4, .int i_4), (6, va_rf r_6), (7, .int (i_7 + (1 : Int32)))]) dJ21_resize_347 rfl rfl (Nat.le_of_ble_eq_true rfl) rfl rfl ?_
  refine v_goto 151 dJ21_resize_350 (by decide) ?_
  exact V.weak hf (by omega) (by omega)
theorem b_J21_resize {G : Gt} {h : Hp} {mc ms : Nat} {a0 : Nat} {K : Option Nat → Hp → Prop} (hG : Base G) (hf : ∀ E : Ev, V G E Y_J21_resize cJ21_resize 14 (QM G E (kR K) xN) h mc ms 0 [(0, .ref a0)] []) : MM G Y_J21_resize cJ21_resize 14 mc ms [.ref a0] h (kR K) xN := mm_of hG (by decide +kernel) rfl (ac_c rfl ac_nil) (Nat.le_of_ble_eq_true rfl) (fun E _ _ => hf E)
abbrev Y_J30_init : Yt := (yJ30_init, none, 1, 40, [])
def f_J30_init (G : Gt) (h : Hp) (t_0 : Option Nat) (i_1 : Int32) (r_2 : Option Nat) (r_3 : Option Nat) (r_4 : Option Nat) (K : Hp → Prop) : Prop :=
pF h t_0 21 0 (.int i_1) fun h3 =>
pF h3 t_0 21 1 (va_rf r_2) fun h6 =>
pF h6 t_0 21 2 (va_rf r_3) fun h9 =>
pF h9 t_0 21 3 (va_rf r_4) fun h12 =>
K h12
theorem m_J30_init {G : Gt} {h : Hp} {a0 : Nat} {i_1 : Int32} {r_2 : Option Nat} {r_3 : Option Nat} {r_4 : Option Nat} {K : Hp → Prop} (hG : Base G) (hf : f_J30_init G h (some a0) i_1 r_2 r_3 r_4 K) : MM G Y_J30_init cJ30_init 5 0 0 [.ref a0, .int i_1, va_rf r_2, va_rf r_3, va_rf r_4] h (kV K) xN := by
  refine mm_of hG (by decide +kernel) rfl (ac_c rfl (ac_c rfl (ac_c (rf_cat _) (ac_c (rf_cat _) (ac_c (rf_cat _) ac_nil))))) (Nat.le_of_ble_eq_true rfl) (fun E _ _ => ?_)
  show V G E Y_J30_init cJ30_init 5 (QM G E (kV K) xN) h 0 0 0 [(0, .ref a0), (1, .int i_1), (2, va_rf r_2), (3, va_rf r_3), (4, va_rf r_4)] []
  unfold f_J30_init at hf
  refine v_qload_n (r := (some a0)) (i := 0) dJ30_init_0 rfl rfl ?_
  refine v_objInit dJ30_init_1 q1109 q153 q154 (cat_len (Nat.le_of_ble_eq_true rfl)) (Nat.le_of_ble_eq_true rfl) (Nat.le_of_ble_eq_true rfl) ?_
  refine v_qload_n (r := (some a0)) (i := 0) dJ30_init_4 rfl rfl ?_
  refine v_iload_n (i := 1) dJ30_init_5 rfl rfl ?_
  replace hf := pF_e hf
  obtain ⟨fs1, hh2, hf⟩ := hf
  refine v_putfF (v := .int i_1) (T := TJ31) (ci := 21) (ty := .int) 0 dJ30_init_6 q1114 rfl in_J31 tyJ31 tyJ31_ok nmJ31 (Nat.le_of_ble_eq_true rfl) (Or.inl rfl) rfl rfl rfl (by decide +kernel) rfl rfl hh2 ?_
  obtain ⟨h3, eh3⟩ : ∃ z, z = hs h a0 (true, .inr (21, fs1.set 0 (.int i_1))) := ⟨_, rfl⟩
  try rw [← eh3] at hf
  rw [← eh3]
  refine v_qload_n (r := (some a0)) (i := 0) dJ30_init_9 rfl rfl ?_
  refine v_qload_n (r := r_2) (i := 2) dJ30_init_10 rfl rfl ?_
  replace hf := pF_e hf
  obtain ⟨fs4, hh5, hf⟩ := hf
  refine v_putfF (v := va_rf r_2) (T := TJ31) (ci := 21) (ty := .object "java/lang/Object") 1 dJ30_init_11 q1120 rfl in_J31 tyJ31 tyJ31_ok nmJ31 (Nat.le_of_ble_eq_true rfl) (Or.inl rfl) rfl rfl rfl (by decide +kernel) (rf_nar _ _) (rf_fit _ _) hh5 ?_
  obtain ⟨h6, eh6⟩ : ∃ z, z = hs h3 a0 (true, .inr (21, fs4.set 1 (va_rf r_2))) := ⟨_, rfl⟩
  try rw [← eh6] at hf
  rw [← eh6]
  refine v_qload_n (r := (some a0)) (i := 0) dJ30_init_14 rfl rfl ?_
  refine v_qload_n (r := r_3) (i := 3) dJ30_init_15 rfl rfl ?_
  replace hf := pF_e hf
  obtain ⟨fs7, hh8, hf⟩ := hf
  refine v_putf (v := va_rf r_3) (T := TJ31) (ci := 21) (ty := .object "java/lang/Object") 2 dJ30_init_16 q1127 rfl in_J31 tyJ31 tyJ31_ok nmJ31 (Nat.le_of_ble_eq_true rfl) (Or.inl rfl) rfl (by decide +kernel) (rf_nar _ _) (rf_fit _ _) hh8 ?_
  obtain ⟨h9, eh9⟩ : ∃ z, z = hs h6 a0 (true, .inr (21, fs7.set 2 (va_rf r_3))) := ⟨_, rfl⟩
  try rw [← eh9] at hf
  rw [← eh9]
  refine v_qload_n (r := (some a0)) (i := 0) dJ30_init_19 rfl rfl ?_
  refine v_qload (r := r_4) (i := 4) dJ30_init_20 rfl ?_
  replace hf := pF_e hf
  obtain ⟨fs10, hh11, hf⟩ := hf
  refine v_putf (v := va_rf r_4) (T := TJ31) (ci := 21) (ty := .object "java/util/HashMap$Node") 3 dJ30_init_22 q1132 rfl in_J31 tyJ31 tyJ31_ok nmJ31 (Nat.le_of_ble_eq_true rfl) (Or.inl rfl) rfl (by decide +kernel) (rf_nar _ _) (rf_fit _ _) hh11 ?_
  obtain ⟨h12, eh12⟩ : ∃ z, z = hs h9 a0 (true, .inr (21, fs10.set 3 (va_rf r_4))) := ⟨_, rfl⟩
  try rw [← eh12] at hf
  rw [← eh12]
  exact v_vret dJ30_init_25 rfl ⟨rfl, hf⟩
abbrev Y_J31_init : Yt := (yJ31_init, none, 2, 64, [])
def f_J31_init (G : Gt) (h : Hp) (t_0 : Option Nat) (i_1 : Int32) (r_2 : Option Nat) (r_3 : Option Nat) (r_4 : Option Nat) (K : Hp → Prop) : Prop :=
f_J30_init G h t_0 i_1 r_2 r_3 r_4 (fun h1 =>
K h1)
theorem m_J31_init {G : Gt} {h : Hp} {a0 : Nat} {i_1 : Int32} {r_2 : Option Nat} {r_3 : Option Nat} {r_4 : Option Nat} {K : Hp → Prop} (hG : Base G) (hf : f_J31_init G h (some a0) i_1 r_2 r_3 r_4 K) : MM G Y_J31_init cJ31_init 5 0 0 [.ref a0, .int i_1, va_rf r_2, va_rf r_3, va_rf r_4] h (kV K) xN := by
  refine mm_of hG (by decide +kernel) rfl (ac_c rfl (ac_c rfl (ac_c (rf_cat _) (ac_c (rf_cat _) (ac_c (rf_cat _) ac_nil))))) (Nat.le_of_ble_eq_true rfl) (fun E _ _ => ?_)
  show V G E Y_J31_init cJ31_init 5 (QM G E (kV K) xN) h 0 0 0 [(0, .ref a0), (1, .int i_1), (2, va_rf r_2), (3, va_rf r_3), (4, va_rf r_4)] []
  unfold f_J31_init at hf
  refine v_qload_n (r := (some a0)) (i := 0) dJ31_init_0 rfl rfl ?_
  refine v_iload_n (i := 1) dJ31_init_1 rfl rfl ?_
  refine v_qload_n (r := r_2) (i := 2) dJ31_init_2 rfl rfl ?_
  refine v_qload_n (r := r_3) (i := 3) dJ31_init_3 rfl rfl ?_
  refine v_qload (r := r_4) (i := 4) dJ31_init_4 rfl ?_
  refine V.addK0 ?_
  refine V.addN0 ?_
  refine v_callI (mc := 0) (ms := 0) 4 dJ31_init_6 (m_J30_init hG hf) rfl (lw_meth q1108) rfl q126 q1106 q1107 rfl rfl (by decide +kernel) (by decide) rfl (cat_len (Nat.le_of_ble_eq_true rfl)) (kk_V fun h1 hg => ?_) (fun _ _ _ hx => hx.elim)
  replace hf := hg
  clear hg
  exact v_vret dJ31_init_9 rfl ⟨rfl, hf⟩
abbrev Y_J22_linkNodeAtEnd : Yt := (yJ22_linkNodeAtEnd, none, 1, 40, [])
def f_J22_linkNodeAtEnd (G : Gt) (h : Hp) (t_0 : Option Nat) (r_1 : Option Nat) (K : Hp → Prop) : Prop :=
gI h t_0 17 11 fun i1 =>
((¬ (i1 = (1 : Int32)) → gR h t_0 17 9 fun r7 =>
pF h t_0 17 9 (va_rf r_1) fun h14 =>
((r7 = none → pF h14 t_0 17 8 (va_rf r_1) fun h19 =>
K h19) ∧
(∀ y15, r7 = some y15 → pF h14 r_1 21 4 (va_rf r7) fun h23 =>
pF h23 r7 21 5 (va_rf r_1) fun h26 =>
K h26))) ∧
(i1 = (1 : Int32) → gR h t_0 17 8 fun r27 =>
pF h t_0 17 8 (va_rf r_1) fun h34 =>
((r27 = none → pF h34 t_0 17 9 (va_rf r_1) fun h39 =>
K h39) ∧
(∀ y35, r27 = some y35 → pF h34 r_1 21 5 (va_rf r27) fun h43 =>
pF h43 r27 21 4 (va_rf r_1) fun h46 =>
K h46))))
theorem m_J22_linkNodeAtEnd {G : Gt} {h : Hp} {a0 : Nat} {r_1 : Option Nat} {K : Hp → Prop} (hG : Base G) (hf : f_J22_linkNodeAtEnd G h (some a0) r_1 K) : MM G Y_J22_linkNodeAtEnd cJ22_linkNodeAtEnd 3 0 0 [.ref a0, va_rf r_1] h (kV K) xN := by
  refine mm_of hG (by decide +kernel) rfl (ac_c rfl (ac_c (rf_cat _) ac_nil)) (Nat.le_of_ble_eq_true rfl) (fun E _ _ => ?_)
  show V G E Y_J22_linkNodeAtEnd cJ22_linkNodeAtEnd 3 (QM G E (kV K) xN) h 0 0 0 [(0, .ref a0), (1, va_rf r_1)] []
  unfold f_J22_linkNodeAtEnd at hf
  refine v_qload_n (r := (some a0)) (i := 0) dJ22_linkNodeAtEnd_0 rfl rfl ?_
  replace hf := gI_e hf
  obtain ⟨w2, fs3, i1, hh4, hk5, hf⟩ := hf
  refine v_getf (T := TJ22) (ci := 17) 11 dJ22_linkNodeAtEnd_1 q818 rfl in_J22 (Nat.le_of_ble_eq_true rfl) (Or.inl rfl) hh4 hk5 ?_
  refine v_iconst (v := 1) dJ22_linkNodeAtEnd_4 (by decide) ?_
  refine v_icmp_ne 43 dJ22_linkNodeAtEnd_5 (by decide) (fun c6 => ?_) (fun c6 => ?_)
  · replace hf := hf.1 c6
    refine v_qload_n (r := (some a0)) (i := 0) dJ22_linkNodeAtEnd_43 rfl rfl ?_
    replace hf := gR_e hf
    obtain ⟨w8, fs9, r7, hh10, hk11, hf⟩ := hf
    refine v_getf (T := TJ22) (ci := 17) 9 dJ22_linkNodeAtEnd_44 q816 rfl in_J22 (Nat.le_of_ble_eq_true rfl) (Or.inl rfl) hh10 hk11 ?_
    refine v_qstore_n (i := 2) (r := r7) (lv' := [(0, va_rf (some a0)), (1, va_rf r_1), (2, va_rf r7)]) dJ22_linkNodeAtEnd_47 rfl (Nat.le_of_ble_eq_true rfl) rfl rfl ?_
    refine v_qload_n (r := (some a0)) (i := 0) dJ22_linkNodeAtEnd_48 rfl rfl ?_
    refine v_qload_n (r := r_1) (i := 1) dJ22_linkNodeAtEnd_49 rfl rfl ?_
    replace hf := pF_e hf
    obtain ⟨fs12, hh13, hf⟩ := hf
    refine v_putf (v := va_rf r_1) (T := TJ22) (ci := 17) (ty := .object "java/util/LinkedHashMap$Entry") 9 dJ22_linkNodeAtEnd_50 q816 rfl in_J22 tyJ22 tyJ22_ok nmJ22 (Nat.le_of_ble_eq_true rfl) (Or.inl rfl) rfl (by decide +kernel) (rf_nar _ _) (rf_fit _ _) hh13 ?_
    obtain ⟨h14, eh14⟩ : ∃ z, z = hs h a0 (true, .inr (17, fs12.set 9 (va_rf r_1))) := ⟨_, rfl⟩
    try rw [← eh14] at hf
    rw [← eh14]
    refine v_qload_n (r := r7) (i := 2) dJ22_linkNodeAtEnd_53 rfl rfl ?_
    refine v_ifnonnull 65 dJ22_linkNodeAtEnd_54 (by decide) (fun y15 e16 => ?_) (fun e16 => ?_)
    · replace hf := hf.2 y15 e16
      subst e16
      refine v_qload_n (r := r_1) (i := 1) dJ22_linkNodeAtEnd_65 rfl rfl ?_
      refine v_qload_n (r := (some y15)) (i := 2) dJ22_linkNodeAtEnd_66 rfl rfl ?_
      obtain ⟨a20, rfl⟩ := pF_s hf
      replace hf := pF_e hf
      obtain ⟨fs21, hh22, hf⟩ := hf
      refine v_putf (v := va_rf (some y15)) (T := TJ31) (ci := 21) (ty := .object "java/util/LinkedHashMap$Entry") 4 dJ22_linkNodeAtEnd_67 q1110 rfl in_J31 tyJ31 tyJ31_ok nmJ31 (Nat.le_of_ble_eq_true rfl) (Or.inl rfl) rfl (by decide +kernel) (rf_nar _ _) (rf_fit _ _) hh22 ?_
      obtain ⟨h23, eh23⟩ : ∃ z, z = hs h14 a20 (true, .inr (21, fs21.set 4 (va_rf (some y15)))) := ⟨_, rfl⟩
      try rw [← eh23] at hf
      rw [← eh23]
      refine v_qload_n (r := (some y15)) (i := 2) dJ22_linkNodeAtEnd_70 rfl rfl ?_
      refine v_qload_n (r := (some a20)) (i := 1) dJ22_linkNodeAtEnd_71 rfl rfl ?_
      replace hf := pF_e hf
      obtain ⟨fs24, hh25, hf⟩ := hf
      refine v_putf (v := va_rf (some a20)) (T := TJ31) (ci := 21) (ty := .object "java/util/LinkedHashMap$Entry") 5 dJ22_linkNodeAtEnd_72 q1112 rfl in_J31 tyJ31 tyJ31_ok nmJ31 (Nat.le_of_ble_eq_true rfl) (Or.inl rfl) rfl (by decide +kernel) (rf_nar _ _) (rf_fit _ _) hh25 ?_
      obtain ⟨h26, eh26⟩ : ∃ z, z = hs h23 y15 (true, .inr (21, fs24.set 5 (va_rf (some a20)))) := ⟨_, rfl⟩
      try rw [← eh26] at hf
      rw [← eh26]
      exact v_vret dJ22_linkNodeAtEnd_75 rfl ⟨rfl, hf⟩
    · replace hf := hf.1 e16
      subst e16
      refine v_qload_n (r := (some a0)) (i := 0) dJ22_linkNodeAtEnd_57 rfl rfl ?_
      refine v_qload_n (r := r_1) (i := 1) dJ22_linkNodeAtEnd_58 rfl rfl ?_
      replace hf := pF_e hf
      obtain ⟨fs17, hh18, hf⟩ := hf
      refine v_putf (v := va_rf r_1) (T := TJ22) (ci := 17) (ty := .object "java/util/LinkedHashMap$Entry") 8 dJ22_linkNodeAtEnd_59 q813 rfl in_J22 tyJ22 tyJ22_ok nmJ22 (Nat.le_of_ble_eq_true rfl) (Or.inl rfl) rfl (by decide +kernel) (rf_nar _ _) (rf_fit _ _) hh18 ?_
      obtain ⟨h19, eh19⟩ : ∃ z, z = hs h14 a0 (true, .inr (17, fs17.set 8 (va_rf r_1))) := ⟨_, rfl⟩
      try rw [← eh19] at hf
      rw [← eh19]
      refine v_goto 75 dJ22_linkNodeAtEnd_62 (by decide) ?_
      exact v_vret dJ22_linkNodeAtEnd_75 rfl ⟨rfl, hf⟩
  · replace hf := hf.2 c6
    refine v_qload_n (r := (some a0)) (i := 0) dJ22_linkNodeAtEnd_8 rfl rfl ?_
    replace hf := gR_e hf
    obtain ⟨w28, fs29, r27, hh30, hk31, hf⟩ := hf
    refine v_getf (T := TJ22) (ci := 17) 8 dJ22_linkNodeAtEnd_9 q813 rfl in_J22 (Nat.le_of_ble_eq_true rfl) (Or.inl rfl) hh30 hk31 ?_
    refine v_qstore_n (i := 2) (r := r27) (lv' := [(0, va_rf (some a0)), (1, va_rf r_1), (2, va_rf r27)]) dJ22_linkNodeAtEnd_12 rfl (Nat.le_of_ble_eq_true rfl) rfl rfl ?_
    refine v_qload_n (r := (some a0)) (i := 0) dJ22_linkNodeAtEnd_13 rfl rfl ?_
    refine v_qload_n (r := r_1) (i := 1) dJ22_linkNodeAtEnd_14 rfl rfl ?_
    replace hf := pF_e hf
    obtain ⟨fs32, hh33, hf⟩ := hf
    refine v_putf (v := va_rf r_1) (T := TJ22) (ci := 17) (ty := .object "java/util/LinkedHashMap$Entry") 8 dJ22_linkNodeAtEnd_15 q813 rfl in_J22 tyJ22 tyJ22_ok nmJ22 (Nat.le_of_ble_eq_true rfl) (Or.inl rfl) rfl (by decide +kernel) (rf_nar _ _) (rf_fit _ _) hh33 ?_
    obtain ⟨h34, eh34⟩ : ∃ z, z = hs h a0 (true, .inr (17, fs32.set 8 (va_rf r_1))) := ⟨_, rfl⟩
    try rw [← eh34] at hf
    rw [← eh34]
    refine v_qload_n (r := r27) (i := 2) dJ22_linkNodeAtEnd_18 rfl rfl ?_
    refine v_ifnonnull 30 dJ22_linkNodeAtEnd_19 (by decide) (fun y35 e36 => ?_) (fun e36 => ?_)
    · replace hf := hf.2 y35 e36
      subst e36
      refine v_qload_n (r := r_1) (i := 1) dJ22_linkNodeAtEnd_30 rfl rfl ?_
      refine v_qload_n (r := (some y35)) (i := 2) dJ22_linkNodeAtEnd_31 rfl rfl ?_
      obtain ⟨a40, rfl⟩ := pF_s hf
      replace hf := pF_e hf
      obtain ⟨fs41, hh42, hf⟩ := hf
      refine v_putf (v := va_rf (some y35)) (T := TJ31) (ci := 21) (ty := .object "java/util/LinkedHashMap$Entry") 5 dJ22_linkNodeAtEnd_32 q1112 rfl in_J31 tyJ31 tyJ31_ok nmJ31 (Nat.le_of_ble_eq_true rfl) (Or.inl rfl) rfl (by decide +kernel) (rf_nar _ _) (rf_fit _ _) hh42 ?_
      obtain ⟨h43, eh43⟩ : ∃ z, z = hs h34 a40 (true, .inr (21, fs41.set 5 (va_rf (some y35)))) := ⟨_, rfl⟩
      try rw [← eh43] at hf
      rw [← eh43]
      refine v_qload_n (r := (some y35)) (i := 2) dJ22_linkNodeAtEnd_35 rfl rfl ?_
      refine v_qload_n (r := (some a40)) (i := 1) dJ22_linkNodeAtEnd_36 rfl rfl ?_
      replace hf := pF_e hf
      obtain ⟨fs44, hh45, hf⟩ := hf
      refine v_putf (v := va_rf (some a40)) (T := TJ31) (ci := 21) (ty := .object "java/util/LinkedHashMap$Entry") 4 dJ22_linkNodeAtEnd_37 q1110 rfl in_J31 tyJ31 tyJ31_ok nmJ31 (Nat.le_of_ble_eq_true rfl) (Or.inl rfl) rfl (by decide +kernel) (rf_nar _ _) (rf_fit _ _) hh45 ?_
      obtain ⟨h46, eh46⟩ : ∃ z, z = hs h43 y35 (true, .inr (21, fs44.set 4 (va_rf (some a40)))) := ⟨_, rfl⟩
      try rw [← eh46] at hf
      rw [← eh46]
      refine v_goto 75 dJ22_linkNodeAtEnd_40 (by decide) ?_
      exact v_vret dJ22_linkNodeAtEnd_75 rfl ⟨rfl, hf⟩
    · replace hf := hf.1 e36
      subst e36
      refine v_qload_n (r := (some a0)) (i := 0) dJ22_linkNodeAtEnd_22 rfl rfl ?_
      refine v_qload_n (r := r_1) (i := 1) dJ22_linkNodeAtEnd_23 rfl rfl ?_
      replace hf := pF_e hf
      obtain ⟨fs37, hh38, hf⟩ := hf
      refine v_putf (v := va_rf r_1) (T := TJ22) (ci := 17) (ty := .object "java/util/LinkedHashMap$Entry") 9 dJ22_linkNodeAtEnd_24 q816 rfl in_J22 tyJ22 tyJ22_ok nmJ22 (Nat.le_of_ble_eq_true rfl) (Or.inl rfl) rfl (by decide +kernel) (rf_nar _ _) (rf_fit _ _) hh38 ?_
      obtain ⟨h39, eh39⟩ : ∃ z, z = hs h34 a0 (true, .inr (17, fs37.set 9 (va_rf r_1))) := ⟨_, rfl⟩
      try rw [← eh39] at hf
      rw [← eh39]
      refine v_goto 40 dJ22_linkNodeAtEnd_27 (by decide) ?_
      refine v_goto 75 dJ22_linkNodeAtEnd_40 (by decide) ?_
      exact v_vret dJ22_linkNodeAtEnd_75 rfl ⟨rfl, hf⟩
abbrev Y_J22_newNode : Yt := (yJ22_newNode, some (.object "java/util/HashMap$Node"), 3, 88, [])
def f_J22_newNode (G : Gt) (h : Hp) (t_0 : Option Nat) (i_1 : Int32) (r_2 : Option Nat) (r_3 : Option Nat) (r_4 : Option Nat) (K : Option Nat → Hp → Prop) : Prop :=
nO h 21 [.int 0, .null, .null, .null, .null, .null] fun a1 h2 =>
f_J31_init G h2 (some a1) i_1 r_2 r_3 r_4 (fun h3 =>
rv h3 t_0 17 (f_J22_linkNodeAtEnd G h3 t_0 (some a1) (fun h7 =>
K (some a1) h7)))
theorem m_J22_newNode {G : Gt} {h : Hp} {a0 : Nat} {i_1 : Int32} {r_2 : Option Nat} {r_3 : Option Nat} {r_4 : Option Nat} {K : Option Nat → Hp → Prop} (hG : Base G) (hf : f_J22_newNode G h (some a0) i_1 r_2 r_3 r_4 K) : MM G Y_J22_newNode cJ22_newNode 6 1 6 [.ref a0, .int i_1, va_rf r_2, va_rf r_3, va_rf r_4] h (kR K) xN := by
  refine mm_of hG (by decide +kernel) rfl (ac_c rfl (ac_c rfl (ac_c (rf_cat _) (ac_c (rf_cat _) (ac_c (rf_cat _) ac_nil))))) (Nat.le_of_ble_eq_true rfl) (fun E _ _ => ?_)
  show V G E Y_J22_newNode cJ22_newNode 6 (QM G E (kR K) xN) h 1 6 0 [(0, .ref a0), (1, .int i_1), (2, va_rf r_2), (3, va_rf r_3), (4, va_rf r_4)] []
  unfold f_J22_newNode at hf
  refine v_new (N := 6) (fs := [.int 0, .null, .null, .null, .null, .null]) (ci := 21) dJ22_newNode_0 q1101 q1102 q127 rfl in_J31 tyJ31 tyJ31_ok rfl (fun a1 ha1 => ?_)
  replace hf := hf a1 ha1
  obtain ⟨h2, eh2⟩ : ∃ z, z = hs h a1 (true, .inr (21, [.int 0, .null, .null, .null, .null, .null])) := ⟨_, rfl⟩
  try rw [← eh2] at hf
  rw [← eh2]
  refine v_dup dJ22_newNode_3 rfl ?_
  refine v_iload_n (i := 1) dJ22_newNode_4 rfl rfl ?_
  refine v_qload_n (r := r_2) (i := 2) dJ22_newNode_5 rfl rfl ?_
  refine v_qload_n (r := r_3) (i := 3) dJ22_newNode_6 rfl rfl ?_
  refine v_qload (r := r_4) (i := 4) dJ22_newNode_7 rfl ?_
  refine V.addK0 ?_
  refine V.addN0 ?_
  refine v_callI (mc := 0) (ms := 0) 4 dJ22_newNode_9 (m_J31_init hG hf) rfl (lw_meth q1105) rfl q127 q1103 q1104 rfl rfl (by decide +kernel) (by decide) rfl (cat_len (Nat.le_of_ble_eq_true rfl)) (kk_V fun h3 hg => ?_) (fun _ _ _ hx => hx.elim)
  replace hf := hg
  clear hg
  refine v_astore (i := 5) (lv' := [(0, va_rf (some a0)), (1, .int i_1), (2, va_rf r_2), (3, va_rf r_3), (4, va_rf r_4), (5, .ref a1)]) dJ22_newNode_12 (Nat.le_of_ble_eq_true rfl) rfl rfl ?_
  refine v_qload_n (r := (some a0)) (i := 0) dJ22_newNode_14 rfl rfl ?_
  refine v_aload (i := 5) dJ22_newNode_15 rfl ?_
  replace hf := rv_e hf
  obtain ⟨w4, fs5, hh6, hf⟩ := hf
  refine V.addK0 ?_
  refine V.addN0 ?_
  refine v_callV (mc := 0) (ms := 0) 1 dJ22_newNode_17 (m_J22_linkNodeAtEnd hG hf) rfl hh6 rfl (lw_V q1398 q1400 qs13 q117 q1401) rfl (by decide +kernel) (by decide) rfl (cat_len (Nat.le_of_ble_eq_true rfl)) (kk_V fun h7 hg => ?_) (fun _ _ _ hx => hx.elim)
  replace hf := hg
  clear hg
  refine v_aload (i := 5) dJ22_newNode_20 rfl ?_
  exact v_qret (r := (some a1)) dJ22_newNode_22 rfl (Or.inl ⟨_, rfl⟩) ⟨_, rfl, hf⟩
abbrev Y_J22_afterNodeAccess : Yt := (yJ22_afterNodeAccess, none, 1, 40, [])
def f_J22_afterNodeAccess (G : Gt) (h : Hp) (t_0 : Option Nat) (r_1 : Option Nat) (K : Hp → Prop) : Prop :=
gI h t_0 17 11 fun i1 =>
((i1 = (2 : Int32) → False) ∧
(¬ (i1 = (2 : Int32)) → gI h t_0 17 11 fun i7 =>
((¬ (i7 = 0) → gI h t_0 17 11 fun i13 =>
((¬ (i13 = (1 : Int32)) → K h) ∧
(i13 = (1 : Int32) → gR h t_0 17 8 fun r19 =>
((r19 = r_1 → K h) ∧
(¬ (r19 = r_1) → (oc h r_1 21 ∧ gR h r_1 21 4 fun r25 =>
gR h r_1 21 5 fun r31 =>
pF h r_1 21 4 (.null) fun h38 =>
((r31 = none → pF h38 t_0 17 9 (va_rf r25) fun h43 =>
((r25 = none → pF h43 t_0 17 9 (va_rf r_1) fun h48 =>
pF h48 t_0 17 8 (va_rf r_1) fun h51 =>
gI h51 t_0 17 3 fun i52 =>
pF h51 t_0 17 3 (.int (i52 + (1 : Int32))) fun h59 =>
K h59) ∧
(∀ y44, r25 = some y44 → pF h43 r25 21 5 (va_rf r31) fun h62 =>
((r19 = none → pF h62 t_0 17 9 (va_rf r_1) fun h67 =>
pF h67 t_0 17 8 (va_rf r_1) fun h70 =>
gI h70 t_0 17 3 fun i71 =>
pF h70 t_0 17 3 (.int (i71 + (1 : Int32))) fun h78 =>
K h78) ∧
(∀ y63, r19 = some y63 → pF h62 r_1 21 5 (va_rf r19) fun h81 =>
pF h81 r19 21 4 (va_rf r_1) fun h84 =>
pF h84 t_0 17 8 (va_rf r_1) fun h87 =>
gI h87 t_0 17 3 fun i88 =>
pF h87 t_0 17 3 (.int (i88 + (1 : Int32))) fun h95 =>
K h95))))) ∧
(∀ y39, r31 = some y39 → pF h38 r31 21 4 (va_rf r25) fun h98 =>
((r25 = none → pF h98 r_1 21 5 (va_rf r31) fun h103 =>
pF h103 r31 21 4 (va_rf r_1) fun h106 =>
pF h106 t_0 17 8 (va_rf r_1) fun h109 =>
gI h109 t_0 17 3 fun i110 =>
pF h109 t_0 17 3 (.int (i110 + (1 : Int32))) fun h117 =>
K h117) ∧
(∀ y99, r25 = some y99 → pF h98 r25 21 5 (va_rf r31) fun h120 =>
((r19 = none → pF h120 t_0 17 9 (va_rf r_1) fun h125 =>
pF h125 t_0 17 8 (va_rf r_1) fun h128 =>
gI h128 t_0 17 3 fun i129 =>
pF h128 t_0 17 3 (.int (i129 + (1 : Int32))) fun h136 =>
K h136) ∧
(∀ y121, r19 = some y121 → pF h120 r_1 21 5 (va_rf r19) fun h139 =>
pF h139 r19 21 4 (va_rf r_1) fun h142 =>
pF h142 t_0 17 8 (va_rf r_1) fun h145 =>
gI h145 t_0 17 3 fun i146 =>
pF h145 t_0 17 3 (.int (i146 + (1 : Int32))) fun h153 =>
K h153)))))))))))) ∧
(i7 = 0 → gI h t_0 17 10 fun i154 =>
((i154 = 0 → gI h t_0 17 11 fun i160 =>
((¬ (i160 = (1 : Int32)) → K h) ∧
(i160 = (1 : Int32) → gR h t_0 17 8 fun r166 =>
((r166 = r_1 → K h) ∧
(¬ (r166 = r_1) → (oc h r_1 21 ∧ gR h r_1 21 4 fun r172 =>
gR h r_1 21 5 fun r178 =>
pF h r_1 21 4 (.null) fun h185 =>
((r178 = none → pF h185 t_0 17 9 (va_rf r172) fun h190 =>
((r172 = none → pF h190 t_0 17 9 (va_rf r_1) fun h195 =>
pF h195 t_0 17 8 (va_rf r_1) fun h198 =>
gI h198 t_0 17 3 fun i199 =>
pF h198 t_0 17 3 (.int (i199 + (1 : Int32))) fun h206 =>
K h206) ∧
(∀ y191, r172 = some y191 → pF h190 r172 21 5 (va_rf r178) fun h209 =>
((r166 = none → pF h209 t_0 17 9 (va_rf r_1) fun h214 =>
pF h214 t_0 17 8 (va_rf r_1) fun h217 =>
gI h217 t_0 17 3 fun i218 =>
pF h217 t_0 17 3 (.int (i218 + (1 : Int32))) fun h225 =>
K h225) ∧
(∀ y210, r166 = some y210 → pF h209 r_1 21 5 (va_rf r166) fun h228 =>
pF h228 r166 21 4 (va_rf r_1) fun h231 =>
pF h231 t_0 17 8 (va_rf r_1) fun h234 =>
gI h234 t_0 17 3 fun i235 =>
pF h234 t_0 17 3 (.int (i235 + (1 : Int32))) fun h242 =>
K h242))))) ∧
(∀ y186, r178 = some y186 → pF h185 r178 21 4 (va_rf r172) fun h245 =>
((r172 = none → pF h245 r_1 21 5 (va_rf r178) fun h250 =>
pF h250 r178 21 4 (va_rf r_1) fun h253 =>
pF h253 t_0 17 8 (va_rf r_1) fun h256 =>
gI h256 t_0 17 3 fun i257 =>
pF h256 t_0 17 3 (.int (i257 + (1 : Int32))) fun h264 =>
K h264) ∧
(∀ y246, r172 = some y246 → pF h245 r172 21 5 (va_rf r178) fun h267 =>
((r166 = none → pF h267 t_0 17 9 (va_rf r_1) fun h272 =>
pF h272 t_0 17 8 (va_rf r_1) fun h275 =>
gI h275 t_0 17 3 fun i276 =>
pF h275 t_0 17 3 (.int (i276 + (1 : Int32))) fun h283 =>
K h283) ∧
(∀ y268, r166 = some y268 → pF h267 r_1 21 5 (va_rf r166) fun h286 =>
pF h286 r166 21 4 (va_rf r_1) fun h289 =>
pF h289 t_0 17 8 (va_rf r_1) fun h292 =>
gI h292 t_0 17 3 fun i293 =>
pF h292 t_0 17 3 (.int (i293 + (1 : Int32))) fun h300 =>
K h300)))))))))))) ∧
(¬ (i154 = 0) → False))))))
theorem m_J22_afterNodeAccess {G : Gt} {h : Hp} {a0 : Nat} {r_1 : Option Nat} {K : Hp → Prop} (hG : Base G) (hf : f_J22_afterNodeAccess G h (some a0) r_1 K) : MM G Y_J22_afterNodeAccess cJ22_afterNodeAccess 7 0 0 [.ref a0, va_rf r_1] h (kV K) xN := by
  refine mm_of hG (by decide +kernel) rfl (ac_c rfl (ac_c (rf_cat _) ac_nil)) (Nat.le_of_ble_eq_true rfl) (fun E _ _ => ?_)
  show V G E Y_J22_afterNodeAccess cJ22_afterNodeAccess 7 (QM G E (kV K) xN) h 0 0 0 [(0, .ref a0), (1, va_rf r_1)] []
  unfold f_J22_afterNodeAccess at hf
  refine v_qload_n (r := (some a0)) (i := 0) dJ22_afterNodeAccess_0 rfl rfl ?_
  replace hf := gI_e hf
  obtain ⟨w2, fs3, i1, hh4, hk5, hf⟩ := hf
  refine v_getf (T := TJ22) (ci := 17) 11 dJ22_afterNodeAccess_1 q818 rfl in_J22 (Nat.le_of_ble_eq_true rfl) (Or.inl rfl) hh4 hk5 ?_
  refine v_iconst (v := 2) dJ22_afterNodeAccess_4 (by decide) ?_
  refine v_icmp_eq 22 dJ22_afterNodeAccess_5 (by decide) (fun c6 => ?_) (fun c6 => ?_)
  · replace hf := hf.1 c6
    exact hf.elim
  · replace hf := hf.2 c6
    refine v_qload_n (r := (some a0)) (i := 0) dJ22_afterNodeAccess_8 rfl rfl ?_
    replace hf := gI_e hf
    obtain ⟨w8, fs9, i7, hh10, hk11, hf⟩ := hf
    refine v_getf (T := TJ22) (ci := 17) 11 dJ22_afterNodeAccess_9 q818 rfl in_J22 (Nat.le_of_ble_eq_true rfl) (Or.inl rfl) hh10 hk11 ?_
    refine v_if_ne 141 dJ22_afterNodeAccess_12 (by decide) (fun c12 => ?_) (fun c12 => ?_)
    · replace hf := hf.1 c12
      refine v_qload_n (r := (some a0)) (i := 0) dJ22_afterNodeAccess_141 rfl rfl ?_
      replace hf := gI_e hf
      obtain ⟨w14, fs15, i13, hh16, hk17, hf⟩ := hf
      refine v_getf (T := TJ22) (ci := 17) 11 dJ22_afterNodeAccess_142 q818 rfl in_J22 (Nat.le_of_ble_eq_true rfl) (Or.inl rfl) hh16 hk17 ?_
      refine v_iconst (v := 1) dJ22_afterNodeAccess_145 (by decide) ?_
      refine v_icmp_ne 265 dJ22_afterNodeAccess_146 (by decide) (fun c18 => ?_) (fun c18 => ?_)
      · replace hf := hf.1 c18
        exact v_vret dJ22_afterNodeAccess_265 rfl ⟨rfl, hf⟩
      · replace hf := hf.2 c18
        refine v_qload_n (r := (some a0)) (i := 0) dJ22_afterNodeAccess_149 rfl rfl ?_
        replace hf := gR_e hf
        obtain ⟨w20, fs21, r19, hh22, hk23, hf⟩ := hf
        refine v_getf (T := TJ22) (ci := 17) 8 dJ22_afterNodeAccess_150 q813 rfl in_J22 (Nat.le_of_ble_eq_true rfl) (Or.inl rfl) hh22 hk23 ?_
        refine v_dup dJ22_afterNodeAccess_153 (rf_cat _) ?_
        refine v_qstore_n (i := 3) (r := r19) (lv' := [(0, va_rf (some a0)), (1, va_rf r_1), (3, va_rf r19)]) dJ22_afterNodeAccess_154 rfl (Nat.le_of_ble_eq_true rfl) rfl rfl ?_
        refine v_qload_n (r := r_1) (i := 1) dJ22_afterNodeAccess_155 rfl rfl ?_
        refine v_acmp_eq (x := r19) (y := r_1) 265 dJ22_afterNodeAccess_156 (by decide) (fun c24 => ?_) (fun c24 => ?_)
        · replace hf := hf.1 c24
          exact v_vret dJ22_afterNodeAccess_265 rfl ⟨rfl, hf⟩
        · replace hf := hf.2 c24
          refine v_qload_n (r := r_1) (i := 1) dJ22_afterNodeAccess_159 rfl rfl ?_
          obtain ⟨hoc, hf⟩ := hf
          refine v_castQS (r := r_1) dJ22_afterNodeAccess_160 q1101 hoc rfl ?_
          refine v_qstore (i := 4) (r := r_1) (lv' := [(0, va_rf (some a0)), (1, va_rf r_1), (3, va_rf r19), (4, va_rf r_1)]) dJ22_afterNodeAccess_163 (Nat.le_of_ble_eq_true rfl) rfl rfl ?_
          refine v_qload (r := r_1) (i := 4) dJ22_afterNodeAccess_165 rfl ?_
          obtain ⟨a26, rfl⟩ := gR_s hf
          replace hf := gR_e hf
          obtain ⟨w27, fs28, r25, hh29, hk30, hf⟩ := hf
          refine v_getf (T := TJ31) (ci := 21) 4 dJ22_afterNodeAccess_167 q1110 rfl in_J31 (Nat.le_of_ble_eq_true rfl) (Or.inl rfl) hh29 hk30 ?_
          refine v_qstore (i := 5) (r := r25) (lv' := [(0, va_rf (some a0)), (1, va_rf (some a26)), (3, va_rf r19), (4, va_rf (some a26)), (5, va_rf r25)]) dJ22_afterNodeAccess_170 (Nat.le_of_ble_eq_true rfl) rfl rfl ?_
          refine v_qload (r := (some a26)) (i := 4) dJ22_afterNodeAccess_172 rfl ?_
          replace hf := gR_e hf
          obtain ⟨w32, fs33, r31, hh34, hk35, hf⟩ := hf
          refine v_getf (T := TJ31) (ci := 21) 5 dJ22_afterNodeAccess_174 q1112 rfl in_J31 (Nat.le_of_ble_eq_true rfl) (Or.inl rfl) hh34 hk35 ?_
          refine v_qstore (i := 6) (r := r31) (lv' := [(0, va_rf (some a0)), (1, va_rf (some a26)), (3, va_rf r19), (4, va_rf (some a26)), (5, va_rf r25), (6, va_rf r31)]) dJ22_afterNodeAccess_177 (Nat.le_of_ble_eq_true rfl) rfl rfl ?_
          refine v_qload (r := (some a26)) (i := 4) dJ22_afterNodeAccess_179 rfl ?_
          refine v_null dJ22_afterNodeAccess_181 ?_
          replace hf := pF_e hf
          obtain ⟨fs36, hh37, hf⟩ := hf
          refine v_putf (v := .null) (T := TJ31) (ci := 21) (ty := .object "java/util/LinkedHashMap$Entry") 4 dJ22_afterNodeAccess_182 q1110 rfl in_J31 tyJ31 tyJ31_ok nmJ31 (Nat.le_of_ble_eq_true rfl) (Or.inl rfl) rfl (by decide +kernel) rfl rfl hh37 ?_
          obtain ⟨h38, eh38⟩ : ∃ z, z = hs h a26 (true, .inr (21, fs36.set 4 (.null))) := ⟨_, rfl⟩
          try rw [← eh38] at hf
          rw [← eh38]
          refine v_qload (r := r31) (i := 6) dJ22_afterNodeAccess_185 rfl ?_
          refine v_ifnonnull 199 dJ22_afterNodeAccess_187 (by decide) (fun y39 e40 => ?_) (fun e40 => ?_)
          · replace hf := hf.2 y39 e40
            subst e40
            refine v_qload (r := (some y39)) (i := 6) dJ22_afterNodeAccess_199 rfl ?_
            refine v_qload (r := r25) (i := 5) dJ22_afterNodeAccess_201 rfl ?_
            replace hf := pF_e hf
            obtain ⟨fs96, hh97, hf⟩ := hf
            refine v_putf (v := va_rf r25) (T := TJ31) (ci := 21) (ty := .object "java/util/LinkedHashMap$Entry") 4 dJ22_afterNodeAccess_203 q1110 rfl in_J31 tyJ31 tyJ31_ok nmJ31 (Nat.le_of_ble_eq_true rfl) (Or.inl rfl) rfl (by decide +kernel) (rf_nar _ _) (rf_fit _ _) hh97 ?_
            obtain ⟨h98, eh98⟩ : ∃ z, z = hs h38 y39 (true, .inr (21, fs96.set 4 (va_rf r25))) := ⟨_, rfl⟩
            try rw [← eh98] at hf
            rw [← eh98]
            refine v_qload (r := r25) (i := 5) dJ22_afterNodeAccess_206 rfl ?_
            refine v_ifnull 221 dJ22_afterNodeAccess_208 (by decide) (fun e100 => ?_) (fun y99 e100 => ?_)
            · replace hf := hf.1 e100
              subst e100
              refine v_qload (r := (some y39)) (i := 6) dJ22_afterNodeAccess_221 rfl ?_
              refine v_qstore_n (i := 3) (r := (some y39)) (lv' := [(0, va_rf (some a0)), (1, va_rf (some a26)), (3, va_rf (some y39)), (4, va_rf (some a26)), (5, va_rf none), (6, va_rf (some y39))]) dJ22_afterNodeAccess_223 rfl (Nat.le_of_ble_eq_true rfl) rfl rfl ?_
              refine v_qload_n (r := (some y39)) (i := 3) dJ22_afterNodeAccess_224 rfl rfl ?_
              refine v_ifnonnullR 237 dJ22_afterNodeAccess_225 (by decide) ?_
              refine v_qload (r := (some a26)) (i := 4) dJ22_afterNodeAccess_237 rfl ?_
              refine v_qload_n (r := (some y39)) (i := 3) dJ22_afterNodeAccess_239 rfl rfl ?_
              replace hf := pF_e hf
              obtain ⟨fs101, hh102, hf⟩ := hf
              refine v_putf (v := va_rf (some y39)) (T := TJ31) (ci := 21) (ty := .object "java/util/LinkedHashMap$Entry") 5 dJ22_afterNodeAccess_240 q1112 rfl in_J31 tyJ31 tyJ31_ok nmJ31 (Nat.le_of_ble_eq_true rfl) (Or.inl rfl) rfl (by decide +kernel) (rf_nar _ _) (rf_fit _ _) hh102 ?_
              obtain ⟨h103, eh103⟩ : ∃ z, z = hs h98 a26 (true, .inr (21, fs101.set 5 (va_rf (some y39)))) := ⟨_, rfl⟩
              try rw [← eh103] at hf
              rw [← eh103]
              refine v_qload_n (r := (some y39)) (i := 3) dJ22_afterNodeAccess_243 rfl rfl ?_
              refine v_qload (r := (some a26)) (i := 4) dJ22_afterNodeAccess_244 rfl ?_
              replace hf := pF_e hf
              obtain ⟨fs104, hh105, hf⟩ := hf
              refine v_putf (v := va_rf (some a26)) (T := TJ31) (ci := 21) (ty := .object "java/util/LinkedHashMap$Entry") 4 dJ22_afterNodeAccess_246 q1110 rfl in_J31 tyJ31 tyJ31_ok nmJ31 (Nat.le_of_ble_eq_true rfl) (Or.inl rfl) rfl (by decide +kernel) (rf_nar _ _) (rf_fit _ _) hh105 ?_
              obtain ⟨h106, eh106⟩ : ∃ z, z = hs h103 y39 (true, .inr (21, fs104.set 4 (va_rf (some a26)))) := ⟨_, rfl⟩
              try rw [← eh106] at hf
              rw [← eh106]
              refine v_qload_n (r := (some a0)) (i := 0) dJ22_afterNodeAccess_249 rfl rfl ?_
              refine v_qload (r := (some a26)) (i := 4) dJ22_afterNodeAccess_250 rfl ?_
              replace hf := pF_e hf
              obtain ⟨fs107, hh108, hf⟩ := hf
              refine v_putf (v := va_rf (some a26)) (T := TJ22) (ci := 17) (ty := .object "java/util/LinkedHashMap$Entry") 8 dJ22_afterNodeAccess_252 q813 rfl in_J22 tyJ22 tyJ22_ok nmJ22 (Nat.le_of_ble_eq_true rfl) (Or.inl rfl) rfl (by decide +kernel) (rf_nar _ _) (rf_fit _ _) hh108 ?_
              obtain ⟨h109, eh109⟩ : ∃ z, z = hs h106 a0 (true, .inr (17, fs107.set 8 (va_rf (some a26)))) := ⟨_, rfl⟩
              try rw [← eh109] at hf
              rw [← eh109]
              refine v_qload_n (r := (some a0)) (i := 0) dJ22_afterNodeAccess_255 rfl rfl ?_
              refine v_dup dJ22_afterNodeAccess_256 (rf_cat _) ?_
              replace hf := gI_e hf
              obtain ⟨w111, fs112, i110, hh113, hk114, hf⟩ := hf
              refine v_getf (T := TJ22) (ci := 17) 3 dJ22_afterNodeAccess_257 q829 rfl in_J22 (Nat.le_of_ble_eq_true rfl) (Or.inr q828) hh113 hk114 ?_
              refine v_iconst (v := 1) dJ22_afterNodeAccess_260 (by decide) ?_
              refine v_iadd dJ22_afterNodeAccess_261 ?_
              replace hf := pF_e hf
              obtain ⟨fs115, hh116, hf⟩ := hf
              refine v_putf (v := .int (i110 + (1 : Int32))) (T := TJ22) (ci := 17) (ty := .int) 3 dJ22_afterNodeAccess_262 q829 rfl in_J22 tyJ22 tyJ22_ok nmJ22 (Nat.le_of_ble_eq_true rfl) (Or.inr q828) rfl (by decide +kernel) rfl rfl hh116 ?_
              obtain ⟨h117, eh117⟩ : ∃ z, z = hs h109 a0 (true, .inr (17, fs115.set 3 (.int (i110 + (1 : Int32))))) := ⟨_, rfl⟩
              try rw [← eh117] at hf
              rw [← eh117]
              exact v_vret dJ22_afterNodeAccess_265 rfl ⟨rfl, hf⟩
            · replace hf := hf.2 y99 e100
              subst e100
              refine v_qload (r := (some y99)) (i := 5) dJ22_afterNodeAccess_211 rfl ?_
              refine v_qload (r := (some y39)) (i := 6) dJ22_afterNodeAccess_213 rfl ?_
              replace hf := pF_e hf
              obtain ⟨fs118, hh119, hf⟩ := hf
              refine v_putf (v := va_rf (some y39)) (T := TJ31) (ci := 21) (ty := .object "java/util/LinkedHashMap$Entry") 5 dJ22_afterNodeAccess_215 q1112 rfl in_J31 tyJ31 tyJ31_ok nmJ31 (Nat.le_of_ble_eq_true rfl) (Or.inl rfl) rfl (by decide +kernel) (rf_nar _ _) (rf_fit _ _) hh119 ?_
              obtain ⟨h120, eh120⟩ : ∃ z, z = hs h98 y99 (true, .inr (21, fs118.set 5 (va_rf (some y39)))) := ⟨_, rfl⟩
              try rw [← eh120] at hf
              rw [← eh120]
              refine v_goto 224 dJ22_afterNodeAccess_218 (by decide) ?_
              refine v_qload_n (r := r19) (i := 3) dJ22_afterNodeAccess_224 rfl rfl ?_
              refine v_ifnonnull 237 dJ22_afterNodeAccess_225 (by decide) (fun y121 e122 => ?_) (fun e122 => ?_)
              · replace hf := hf.2 y121 e122
                subst e122
                refine v_qload (r := (some a26)) (i := 4) dJ22_afterNodeAccess_237 rfl ?_
                refine v_qload_n (r := (some y121)) (i := 3) dJ22_afterNodeAccess_239 rfl rfl ?_
                replace hf := pF_e hf
                obtain ⟨fs137, hh138, hf⟩ := hf
                refine v_putf (v := va_rf (some y121)) (T := TJ31) (ci := 21) (ty := .object "java/util/LinkedHashMap$Entry") 5 dJ22_afterNodeAccess_240 q1112 rfl in_J31 tyJ31 tyJ31_ok nmJ31 (Nat.le_of_ble_eq_true rfl) (Or.inl rfl) rfl (by decide +kernel) (rf_nar _ _) (rf_fit _ _) hh138 ?_
                obtain ⟨h139, eh139⟩ : ∃ z, z = hs h120 a26 (true, .inr (21, fs137.set 5 (va_rf (some y121)))) := ⟨_, rfl⟩
                try rw [← eh139] at hf
                rw [← eh139]
                refine v_qload_n (r := (some y121)) (i := 3) dJ22_afterNodeAccess_243 rfl rfl ?_
                refine v_qload (r := (some a26)) (i := 4) dJ22_afterNodeAccess_244 rfl ?_
                replace hf := pF_e hf
                obtain ⟨fs140, hh141, hf⟩ := hf
                refine v_putf (v := va_rf (some a26)) (T := TJ31) (ci := 21) (ty := .object "java/util/LinkedHashMap$Entry") 4 dJ22_afterNodeAccess_246 q1110 rfl in_J31 tyJ31 tyJ31_ok nmJ31 (Nat.le_of_ble_eq_true rfl) (Or.inl rfl) rfl (by decide +kernel) (rf_nar _ _) (rf_fit _ _) hh141 ?_
                obtain ⟨h142, eh142⟩ : ∃ z, z = hs h139 y121 (true, .inr (21, fs140.set 4 (va_rf (some a26)))) := ⟨_, rfl⟩
                try rw [← eh142] at hf
                rw [← eh142]
                refine v_qload_n (r := (some a0)) (i := 0) dJ22_afterNodeAccess_249 rfl rfl ?_
                refine v_qload (r := (some a26)) (i := 4) dJ22_afterNodeAccess_250 rfl ?_
                replace hf := pF_e hf
                obtain ⟨fs143, hh144, hf⟩ := hf
                refine v_putf (v := va_rf (some a26)) (T := TJ22) (ci := 17) (ty := .object "java/util/LinkedHashMap$Entry") 8 dJ22_afterNodeAccess_252 q813 rfl in_J22 tyJ22 tyJ22_ok nmJ22 (Nat.le_of_ble_eq_true rfl) (Or.inl rfl) rfl (by decide +kernel) (rf_nar _ _) (rf_fit _ _) hh144 ?_
                obtain ⟨h145, eh145⟩ : ∃ z, z = hs h142 a0 (true, .inr (17, fs143.set 8 (va_rf (some a26)))) := ⟨_, rfl⟩
                try rw [← eh145] at hf
                rw [← eh145]
                refine v_qload_n (r := (some a0)) (i := 0) dJ22_afterNodeAccess_255 rfl rfl ?_
                refine v_dup dJ22_afterNodeAccess_256 (rf_cat _) ?_
                replace hf := gI_e hf
                obtain ⟨w147, fs148, i146, hh149, hk150, hf⟩ := hf
                refine v_getf (T := TJ22) (ci := 17) 3 dJ22_afterNodeAccess_257 q829 rfl in_J22 (Nat.le_of_ble_eq_true rfl) (Or.inr q828) hh149 hk150 ?_
                refine v_iconst (v := 1) dJ22_afterNodeAccess_260 (by decide) ?_
                refine v_iadd dJ22_afterNodeAccess_261 ?_
                replace hf := pF_e hf
                obtain ⟨fs151, hh152, hf⟩ := hf
                refine v_putf (v := .int (i146 + (1 : Int32))) (T := TJ22) (ci := 17) (ty := .int) 3 dJ22_afterNodeAccess_262 q829 rfl in_J22 tyJ22 tyJ22_ok nmJ22 (Nat.le_of_ble_eq_true rfl) (Or.inr q828) rfl (by decide +kernel) rfl rfl hh152 ?_
                obtain ⟨h153, eh153⟩ : ∃ z, z = hs h145 a0 (true, .inr (17, fs151.set 3 (.int (i146 + (1 : Int32))))) := ⟨_, rfl⟩
                try rw [← eh153] at hf
                rw [← eh153]
                exact v_vret dJ22_afterNodeAccess_265 rfl ⟨rfl, hf⟩
              · replace hf := hf.1 e122
                subst e122
                refine v_qload_n (r := (some a0)) (i := 0) dJ22_afterNodeAccess_228 rfl rfl ?_
                refine v_qload (r := (some a26)) (i := 4) dJ22_afterNodeAccess_229 rfl ?_
                replace hf := pF_e hf
                obtain ⟨fs123, hh124, hf⟩ := hf
                refine v_putf (v := va_rf (some a26)) (T := TJ22) (ci := 17) (ty := .object "java/util/LinkedHashMap$Entry") 9 dJ22_afterNodeAccess_231 q816 rfl in_J22 tyJ22 tyJ22_ok nmJ22 (Nat.le_of_ble_eq_true rfl) (Or.inl rfl) rfl (by decide +kernel) (rf_nar _ _) (rf_fit _ _) hh124 ?_
                obtain ⟨h125, eh125⟩ : ∃ z, z = hs h120 a0 (true, .inr (17, fs123.set 9 (va_rf (some a26)))) := ⟨_, rfl⟩
                try rw [← eh125] at hf
                rw [← eh125]
                refine v_goto 249 dJ22_afterNodeAccess_234 (by decide) ?_
                refine v_qload_n (r := (some a0)) (i := 0) dJ22_afterNodeAccess_249 rfl rfl ?_
                refine v_qload (r := (some a26)) (i := 4) dJ22_afterNodeAccess_250 rfl ?_
                replace hf := pF_e hf
                obtain ⟨fs126, hh127, hf⟩ := hf
                refine v_putf (v := va_rf (some a26)) (T := TJ22) (ci := 17) (ty := .object "java/util/LinkedHashMap$Entry") 8 dJ22_afterNodeAccess_252 q813 rfl in_J22 tyJ22 tyJ22_ok nmJ22 (Nat.le_of_ble_eq_true rfl) (Or.inl rfl) rfl (by decide +kernel) (rf_nar _ _) (rf_fit _ _) hh127 ?_
                obtain ⟨h128, eh128⟩ : ∃ z, z = hs h125 a0 (true, .inr (17, fs126.set 8 (va_rf (some a26)))) := ⟨_, rfl⟩
                try rw [← eh128] at hf
                rw [← eh128]
                refine v_qload_n (r := (some a0)) (i := 0) dJ22_afterNodeAccess_255 rfl rfl ?_
                refine v_dup dJ22_afterNodeAccess_256 (rf_cat _) ?_
                replace hf := gI_e hf
                obtain ⟨w130, fs131, i129, hh132, hk133, hf⟩ := hf
                refine v_getf (T := TJ22) (ci := 17) 3 dJ22_afterNodeAccess_257 q829 rfl in_J22 (Nat.le_of_ble_eq_true rfl) (Or.inr q828) hh132 hk133 ?_
                refine v_iconst (v := 1) dJ22_afterNodeAccess_260 (by decide) ?_
                refine v_iadd dJ22_afterNodeAccess_261 ?_
                replace hf := pF_e hf
                obtain ⟨fs134, hh135, hf⟩ := hf
                refine v_putf (v := .int (i129 + (1 : Int32))) (T := TJ22) (ci := 17) (ty := .int) 3 dJ22_afterNodeAccess_262 q829 rfl in_J22 tyJ22 tyJ22_ok nmJ22 (Nat.le_of_ble_eq_true rfl) (Or.inr q828) rfl (by decide +kernel) rfl rfl hh135 ?_
                obtain ⟨h136, eh136⟩ : ∃ z, z = hs h128 a0 (true, .inr (17, fs134.set 3 (.int (i129 + (1 : Int32))))) := ⟨_, rfl⟩
                try rw [← eh136] at hf
                rw [← eh136]
                exact v_vret dJ22_afterNodeAccess_265 rfl ⟨rfl, hf⟩
          · replace hf := hf.1 e40
            subst e40
            refine v_qload_n (r := (some a0)) (i := 0) dJ22_afterNodeAccess_190 rfl rfl ?_
            refine v_qload (r := r25) (i := 5) dJ22_afterNodeAccess_191 rfl ?_
            replace hf := pF_e hf
            obtain ⟨fs41, hh42, hf⟩ := hf
            refine v_putf (v := va_rf r25) (T := TJ22) (ci := 17) (ty := .object "java/util/LinkedHashMap$Entry") 9 dJ22_afterNodeAccess_193 q816 rfl in_J22 tyJ22 tyJ22_ok nmJ22 (Nat.le_of_ble_eq_true rfl) (Or.inl rfl) rfl (by decide +kernel) (rf_nar _ _) (rf_fit _ _) hh42 ?_
            obtain ⟨h43, eh43⟩ : ∃ z, z = hs h38 a0 (true, .inr (17, fs41.set 9 (va_rf r25))) := ⟨_, rfl⟩
            try rw [← eh43] at hf
            rw [← eh43]
            refine v_goto 206 dJ22_afterNodeAccess_196 (by decide) ?_
            refine v_qload (r := r25) (i := 5) dJ22_afterNodeAccess_206 rfl ?_
            refine v_ifnull 221 dJ22_afterNodeAccess_208 (by decide) (fun e45 => ?_) (fun y44 e45 => ?_)
            · replace hf := hf.1 e45
              subst e45
              refine v_qload (r := none) (i := 6) dJ22_afterNodeAccess_221 rfl ?_
              refine v_qstore_n (i := 3) (r := none) (lv' := [(0, va_rf (some a0)), (1, va_rf (some a26)), (3, va_rf none), (4, va_rf (some a26)), (5, va_rf none), (6, va_rf none)]) dJ22_afterNodeAccess_223 rfl (Nat.le_of_ble_eq_true rfl) rfl rfl ?_
              refine v_qload_n (r := none) (i := 3) dJ22_afterNodeAccess_224 rfl rfl ?_
              refine v_ifnonnullN dJ22_afterNodeAccess_225 ?_
              refine v_qload_n (r := (some a0)) (i := 0) dJ22_afterNodeAccess_228 rfl rfl ?_
              refine v_qload (r := (some a26)) (i := 4) dJ22_afterNodeAccess_229 rfl ?_
              replace hf := pF_e hf
              obtain ⟨fs46, hh47, hf⟩ := hf
              refine v_putf (v := va_rf (some a26)) (T := TJ22) (ci := 17) (ty := .object "java/util/LinkedHashMap$Entry") 9 dJ22_afterNodeAccess_231 q816 rfl in_J22 tyJ22 tyJ22_ok nmJ22 (Nat.le_of_ble_eq_true rfl) (Or.inl rfl) rfl (by decide +kernel) (rf_nar _ _) (rf_fit _ _) hh47 ?_
              obtain ⟨h48, eh48⟩ : ∃ z, z = hs h43 a0 (true, .inr (17, fs46.set 9 (va_rf (some a26)))) := ⟨_, rfl⟩
              try rw [← eh48] at hf
              rw [← eh48]
              refine v_goto 249 dJ22_afterNodeAccess_234 (by decide) ?_
              refine v_qload_n (r := (some a0)) (i := 0) dJ22_afterNodeAccess_249 rfl rfl ?_
              refine v_qload (r := (some a26)) (i := 4) dJ22_afterNodeAccess_250 rfl ?_
              replace hf := pF_e hf
              obtain ⟨fs49, hh50, hf⟩ := hf
              refine v_putf (v := va_rf (some a26)) (T := TJ22) (ci := 17) (ty := .object "java/util/LinkedHashMap$Entry") 8 dJ22_afterNodeAccess_252 q813 rfl in_J22 tyJ22 tyJ22_ok nmJ22 (Nat.le_of_ble_eq_true rfl) (Or.inl rfl) rfl (by decide +kernel) (rf_nar _ _) (rf_fit _ _) hh50 ?_
              obtain ⟨h51, eh51⟩ : ∃ z, z = hs h48 a0 (true, .inr (17, fs49.set 8 (va_rf (some a26)))) := ⟨_, rfl⟩
              try rw [← eh51] at hf
              rw [← eh51]
              refine v_qload_n (r := (some a0)) (i := 0) dJ22_afterNodeAccess_255 rfl rfl ?_
              refine v_dup dJ22_afterNodeAccess_256 (rf_cat _) ?_
              replace hf := gI_e hf
              obtain ⟨w53, fs54, i52, hh55, hk56, hf⟩ := hf
              refine v_getf (T := TJ22) (ci := 17) 3 dJ22_afterNodeAccess_257 q829 rfl in_J22 (Nat.le_of_ble_eq_true rfl) (Or.inr q828) hh55 hk56 ?_
              refine v_iconst (v := 1) dJ22_afterNodeAccess_260 (by decide) ?_
              refine v_iadd dJ22_afterNodeAccess_261 ?_
              replace hf := pF_e hf
              obtain ⟨fs57, hh58, hf⟩ := hf
              refine v_putf (v := .int (i52 + (1 : Int32))) (T := TJ22) (ci := 17) (ty := .int) 3 dJ22_afterNodeAccess_262 q829 rfl in_J22 tyJ22 tyJ22_ok nmJ22 (Nat.le_of_ble_eq_true rfl) (Or.inr q828) rfl (by decide +kernel) rfl rfl hh58 ?_
              obtain ⟨h59, eh59⟩ : ∃ z, z = hs h51 a0 (true, .inr (17, fs57.set 3 (.int (i52 + (1 : Int32))))) := ⟨_, rfl⟩
              try rw [← eh59] at hf
              rw [← eh59]
              exact v_vret dJ22_afterNodeAccess_265 rfl ⟨rfl, hf⟩
            · replace hf := hf.2 y44 e45
              subst e45
              refine v_qload (r := (some y44)) (i := 5) dJ22_afterNodeAccess_211 rfl ?_
              refine v_qload (r := none) (i := 6) dJ22_afterNodeAccess_213 rfl ?_
              replace hf := pF_e hf
              obtain ⟨fs60, hh61, hf⟩ := hf
              refine v_putf (v := va_rf none) (T := TJ31) (ci := 21) (ty := .object "java/util/LinkedHashMap$Entry") 5 dJ22_afterNodeAccess_215 q1112 rfl in_J31 tyJ31 tyJ31_ok nmJ31 (Nat.le_of_ble_eq_true rfl) (Or.inl rfl) rfl (by decide +kernel) (rf_nar _ _) (rf_fit _ _) hh61 ?_
              obtain ⟨h62, eh62⟩ : ∃ z, z = hs h43 y44 (true, .inr (21, fs60.set 5 (va_rf none))) := ⟨_, rfl⟩
              try rw [← eh62] at hf
              rw [← eh62]
              refine v_goto 224 dJ22_afterNodeAccess_218 (by decide) ?_
              refine v_qload_n (r := r19) (i := 3) dJ22_afterNodeAccess_224 rfl rfl ?_
              refine v_ifnonnull 237 dJ22_afterNodeAccess_225 (by decide) (fun y63 e64 => ?_) (fun e64 => ?_)
              · replace hf := hf.2 y63 e64
                subst e64
                refine v_qload (r := (some a26)) (i := 4) dJ22_afterNodeAccess_237 rfl ?_
                refine v_qload_n (r := (some y63)) (i := 3) dJ22_afterNodeAccess_239 rfl rfl ?_
                replace hf := pF_e hf
                obtain ⟨fs79, hh80, hf⟩ := hf
                refine v_putf (v := va_rf (some y63)) (T := TJ31) (ci := 21) (ty := .object "java/util/LinkedHashMap$Entry") 5 dJ22_afterNodeAccess_240 q1112 rfl in_J31 tyJ31 tyJ31_ok nmJ31 (Nat.le_of_ble_eq_true rfl) (Or.inl rfl) rfl (by decide +kernel) (rf_nar _ _) (rf_fit _ _) hh80 ?_
                obtain ⟨h81, eh81⟩ : ∃ z, z = hs h62 a26 (true, .inr (21, fs79.set 5 (va_rf (some y63)))) := ⟨_, rfl⟩
                try rw [← eh81] at hf
                rw [← eh81]
                refine v_qload_n (r := (some y63)) (i := 3) dJ22_afterNodeAccess_243 rfl rfl ?_
                refine v_qload (r := (some a26)) (i := 4) dJ22_afterNodeAccess_244 rfl ?_
                replace hf := pF_e hf
                obtain ⟨fs82, hh83, hf⟩ := hf
                refine v_putf (v := va_rf (some a26)) (T := TJ31) (ci := 21) (ty := .object "java/util/LinkedHashMap$Entry") 4 dJ22_afterNodeAccess_246 q1110 rfl in_J31 tyJ31 tyJ31_ok nmJ31 (Nat.le_of_ble_eq_true rfl) (Or.inl rfl) rfl (by decide +kernel) (rf_nar _ _) (rf_fit _ _) hh83 ?_
                obtain ⟨h84, eh84⟩ : ∃ z, z = hs h81 y63 (true, .inr (21, fs82.set 4 (va_rf (some a26)))) := ⟨_, rfl⟩
                try rw [← eh84] at hf
                rw [← eh84]
                refine v_qload_n (r := (some a0)) (i := 0) dJ22_afterNodeAccess_249 rfl rfl ?_
                refine v_qload (r := (some a26)) (i := 4) dJ22_afterNodeAccess_250 rfl ?_
                replace hf := pF_e hf
                obtain ⟨fs85, hh86, hf⟩ := hf
                refine v_putf (v := va_rf (some a26)) (T := TJ22) (ci := 17) (ty := .object "java/util/LinkedHashMap$Entry") 8 dJ22_afterNodeAccess_252 q813 rfl in_J22 tyJ22 tyJ22_ok nmJ22 (Nat.le_of_ble_eq_true rfl) (Or.inl rfl) rfl (by decide +kernel) (rf_nar _ _) (rf_fit _ _) hh86 ?_
                obtain ⟨h87, eh87⟩ : ∃ z, z = hs h84 a0 (true, .inr (17, fs85.set 8 (va_rf (some a26)))) := ⟨_, rfl⟩
                try rw [← eh87] at hf
                rw [← eh87]
                refine v_qload_n (r := (some a0)) (i := 0) dJ22_afterNodeAccess_255 rfl rfl ?_
                refine v_dup dJ22_afterNodeAccess_256 (rf_cat _) ?_
                replace hf := gI_e hf
                obtain ⟨w89, fs90, i88, hh91, hk92, hf⟩ := hf
                refine v_getf (T := TJ22) (ci := 17) 3 dJ22_afterNodeAccess_257 q829 rfl in_J22 (Nat.le_of_ble_eq_true rfl) (Or.inr q828) hh91 hk92 ?_
                refine v_iconst (v := 1) dJ22_afterNodeAccess_260 (by decide) ?_
                refine v_iadd dJ22_afterNodeAccess_261 ?_
                replace hf := pF_e hf
                obtain ⟨fs93, hh94, hf⟩ := hf
                refine v_putf (v := .int (i88 + (1 : Int32))) (T := TJ22) (ci := 17) (ty := .int) 3 dJ22_afterNodeAccess_262 q829 rfl in_J22 tyJ22 tyJ22_ok nmJ22 (Nat.le_of_ble_eq_true rfl) (Or.inr q828) rfl (by decide +kernel) rfl rfl hh94 ?_
                obtain ⟨h95, eh95⟩ : ∃ z, z = hs h87 a0 (true, .inr (17, fs93.set 3 (.int (i88 + (1 : Int32))))) := ⟨_, rfl⟩
                try rw [← eh95] at hf
                rw [← eh95]
                exact v_vret dJ22_afterNodeAccess_265 rfl ⟨rfl, hf⟩
              · replace hf := hf.1 e64
                subst e64
                refine v_qload_n (r := (some a0)) (i := 0) dJ22_afterNodeAccess_228 rfl rfl ?_
                refine v_qload (r := (some a26)) (i := 4) dJ22_afterNodeAccess_229 rfl ?_
                replace hf := pF_e hf
                obtain ⟨fs65, hh66, hf⟩ := hf
                refine v_putf (v := va_rf (some a26)) (T := TJ22) (ci := 17) (ty := .object "java/util/LinkedHashMap$Entry") 9 dJ22_afterNodeAccess_231 q816 rfl in_J22 tyJ22 tyJ22_ok nmJ22 (Nat.le_of_ble_eq_true rfl) (Or.inl rfl) rfl (by decide +kernel) (rf_nar _ _) (rf_fit _ _) hh66 ?_
                obtain ⟨h67, eh67⟩ : ∃ z, z = hs h62 a0 (true, .inr (17, fs65.set 9 (va_rf (some a26)))) := ⟨_, rfl⟩
                try rw [← eh67] at hf
                rw [← eh67]
                refine v_goto 249 dJ22_afterNodeAccess_234 (by decide) ?_
                refine v_qload_n (r := (some a0)) (i := 0) dJ22_afterNodeAccess_249 rfl rfl ?_
                refine v_qload (r := (some a26)) (i := 4) dJ22_afterNodeAccess_250 rfl ?_
                replace hf := pF_e hf
                obtain ⟨fs68, hh69, hf⟩ := hf
                refine v_putf (v := va_rf (some a26)) (T := TJ22) (ci := 17) (ty := .object "java/util/LinkedHashMap$Entry") 8 dJ22_afterNodeAccess_252 q813 rfl in_J22 tyJ22 tyJ22_ok nmJ22 (Nat.le_of_ble_eq_true rfl) (Or.inl rfl) rfl (by decide +kernel) (rf_nar _ _) (rf_fit _ _) hh69 ?_
                obtain ⟨h70, eh70⟩ : ∃ z, z = hs h67 a0 (true, .inr (17, fs68.set 8 (va_rf (some a26)))) := ⟨_, rfl⟩
                try rw [← eh70] at hf
                rw [← eh70]
                refine v_qload_n (r := (some a0)) (i := 0) dJ22_afterNodeAccess_255 rfl rfl ?_
                refine v_dup dJ22_afterNodeAccess_256 (rf_cat _) ?_
                replace hf := gI_e hf
                obtain ⟨w72, fs73, i71, hh74, hk75, hf⟩ := hf
                refine v_getf (T := TJ22) (ci := 17) 3 dJ22_afterNodeAccess_257 q829 rfl in_J22 (Nat.le_of_ble_eq_true rfl) (Or.inr q828) hh74 hk75 ?_
                refine v_iconst (v := 1) dJ22_afterNodeAccess_260 (by decide) ?_
                refine v_iadd dJ22_afterNodeAccess_261 ?_
                replace hf := pF_e hf
                obtain ⟨fs76, hh77, hf⟩ := hf
                refine v_putf (v := .int (i71 + (1 : Int32))) (T := TJ22) (ci := 17) (ty := .int) 3 dJ22_afterNodeAccess_262 q829 rfl in_J22 tyJ22 tyJ22_ok nmJ22 (Nat.le_of_ble_eq_true rfl) (Or.inr q828) rfl (by decide +kernel) rfl rfl hh77 ?_
                obtain ⟨h78, eh78⟩ : ∃ z, z = hs h70 a0 (true, .inr (17, fs76.set 3 (.int (i71 + (1 : Int32))))) := ⟨_, rfl⟩
                try rw [← eh78] at hf
                rw [← eh78]
                exact v_vret dJ22_afterNodeAccess_265 rfl ⟨rfl, hf⟩
    · replace hf := hf.2 c12
      refine v_qload_n (r := (some a0)) (i := 0) dJ22_afterNodeAccess_15 rfl rfl ?_
      replace hf := gI_e hf
      obtain ⟨w155, fs156, i154, hh157, hk158, hf⟩ := hf
      refine v_getf (T := TJ22) (ci := 17) 10 dJ22_afterNodeAccess_16 q817 rfl in_J22 (Nat.le_of_ble_eq_true rfl) (Or.inl rfl) hh157 hk158 ?_
      refine v_if_eq 141 dJ22_afterNodeAccess_19 (by decide) (fun c159 => ?_) (fun c159 => ?_)
      · replace hf := hf.1 c159
        refine v_qload_n (r := (some a0)) (i := 0) dJ22_afterNodeAccess_141 rfl rfl ?_
        replace hf := gI_e hf
        obtain ⟨w161, fs162, i160, hh163, hk164, hf⟩ := hf
        refine v_getf (T := TJ22) (ci := 17) 11 dJ22_afterNodeAccess_142 q818 rfl in_J22 (Nat.le_of_ble_eq_true rfl) (Or.inl rfl) hh163 hk164 ?_
        refine v_iconst (v := 1) dJ22_afterNodeAccess_145 (by decide) ?_
        refine v_icmp_ne 265 dJ22_afterNodeAccess_146 (by decide) (fun c165 => ?_) (fun c165 => ?_)
        · replace hf := hf.1 c165
          exact v_vret dJ22_afterNodeAccess_265 rfl ⟨rfl, hf⟩
        · replace hf := hf.2 c165
          refine v_qload_n (r := (some a0)) (i := 0) dJ22_afterNodeAccess_149 rfl rfl ?_
          replace hf := gR_e hf
          obtain ⟨w167, fs168, r166, hh169, hk170, hf⟩ := hf
          refine v_getf (T := TJ22) (ci := 17) 8 dJ22_afterNodeAccess_150 q813 rfl in_J22 (Nat.le_of_ble_eq_true rfl) (Or.inl rfl) hh169 hk170 ?_
          refine v_dup dJ22_afterNodeAccess_153 (rf_cat _) ?_
          refine v_qstore_n (i := 3) (r := r166) (lv' := [(0, va_rf (some a0)), (1, va_rf r_1), (3, va_rf r166)]) dJ22_afterNodeAccess_154 rfl (Nat.le_of_ble_eq_true rfl) rfl rfl ?_
          refine v_qload_n (r := r_1) (i := 1) dJ22_afterNodeAccess_155 rfl rfl ?_
          refine v_acmp_eq (x := r166) (y := r_1) 265 dJ22_afterNodeAccess_156 (by decide) (fun c171 => ?_) (fun c171 => ?_)
          · replace hf := hf.1 c171
            exact v_vret dJ22_afterNodeAccess_265 rfl ⟨rfl, hf⟩
          · replace hf := hf.2 c171
            refine v_qload_n (r := r_1) (i := 1) dJ22_afterNodeAccess_159 rfl rfl ?_
            obtain ⟨hoc, hf⟩ := hf
            refine v_castQS (r := r_1) dJ22_afterNodeAccess_160 q1101 hoc rfl ?_
            refine v_qstore (i := 4) (r := r_1) (lv' := [(0, va_rf (some a0)), (1, va_rf r_1), (3, va_rf r166), (4, va_rf r_1)]) dJ22_afterNodeAccess_163 (Nat.le_of_ble_eq_true rfl) rfl rfl ?_
            refine v_qload (r := r_1) (i := 4) dJ22_afterNodeAccess_165 rfl ?_
            obtain ⟨a173, rfl⟩ := gR_s hf
            replace hf := gR_e hf
            obtain ⟨w174, fs175, r172, hh176, hk177, hf⟩ := hf
            refine v_getf (T := TJ31) (ci := 21) 4 dJ22_afterNodeAccess_167 q1110 rfl in_J31 (Nat.le_of_ble_eq_true rfl) (Or.inl rfl) hh176 hk177 ?_
            refine v_qstore (i := 5) (r := r172) (lv' := [(0, va_rf (some a0)), (1, va_rf (some a173)), (3, va_rf r166), (4, va_rf (some a173)), (5, va_rf r172)]) dJ22_afterNodeAccess_170 (Nat.le_of_ble_eq_true rfl) rfl rfl ?_
            refine v_qload (r := (some a173)) (i := 4) dJ22_afterNodeAccess_172 rfl ?_
            replace hf := gR_e hf
            obtain ⟨w179, fs180, r178, hh181, hk182, hf⟩ := hf
            refine v_getf (T := TJ31) (ci := 21) 5 dJ22_afterNodeAccess_174 q1112 rfl in_J31 (Nat.le_of_ble_eq_true rfl) (Or.inl rfl) hh181 hk182 ?_
            refine v_qstore (i := 6) (r := r178) (lv' := [(0, va_rf (some a0)), (1, va_rf (some a173)), (3, va_rf r166), (4, va_rf (some a173)), (5, va_rf r172), (6, va_rf r178)]) dJ22_afterNodeAccess_177 (Nat.le_of_ble_eq_true rfl) rfl rfl ?_
            refine v_qload (r := (some a173)) (i := 4) dJ22_afterNodeAccess_179 rfl ?_
            refine v_null dJ22_afterNodeAccess_181 ?_
            replace hf := pF_e hf
            obtain ⟨fs183, hh184, hf⟩ := hf
            refine v_putf (v := .null) (T := TJ31) (ci := 21) (ty := .object "java/util/LinkedHashMap$Entry") 4 dJ22_afterNodeAccess_182 q1110 rfl in_J31 tyJ31 tyJ31_ok nmJ31 (Nat.le_of_ble_eq_true rfl) (Or.inl rfl) rfl (by decide +kernel) rfl rfl hh184 ?_
            obtain ⟨h185, eh185⟩ : ∃ z, z = hs h a173 (true, .inr (21, fs183.set 4 (.null))) := ⟨_, rfl⟩
            try rw [← eh185] at hf
            rw [← eh185]
            refine v_qload (r := r178) (i := 6) dJ22_afterNodeAccess_185 rfl ?_
            refine v_ifnonnull 199 dJ22_afterNodeAccess_187 (by decide) (fun y186 e187 => ?_) (fun e187 => ?_)
            · replace hf := hf.2 y186 e187
              subst e187
              refine v_qload (r := (some y186)) (i := 6) dJ22_afterNodeAccess_199 rfl ?_
              refine v_qload (r := r172) (i := 5) dJ22_afterNodeAccess_201 rfl ?_
              replace hf := pF_e hf
              obtain ⟨fs243, hh244, hf⟩ := hf
              refine v_putf (v := va_rf r172) (T := TJ31) (ci := 21) (ty := .object "java/util/LinkedHashMap$Entry") 4 dJ22_afterNodeAccess_203 q1110 rfl in_J31 tyJ31 tyJ31_ok nmJ31 (Nat.le_of_ble_eq_true rfl) (Or.inl rfl) rfl (by decide +kernel) (rf_nar _ _) (rf_fit _ _) hh244 ?_
              obtain ⟨h245, eh245⟩ : ∃ z, z = hs h185 y186 (true, .inr (21, fs243.set 4 (va_rf r172))) := ⟨_, rfl⟩
              try rw [← eh245] at hf
              rw [← eh245]
              refine v_qload (r := r172) (i := 5) dJ22_afterNodeAccess_206 rfl ?_
              refine v_ifnull 221 dJ22_afterNodeAccess_208 (by decide) (fun e247 => ?_) (fun y246 e247 => ?_)
              · replace hf := hf.1 e247
                subst e247
                refine v_qload (r := (some y186)) (i := 6) dJ22_afterNodeAccess_221 rfl ?_
                refine v_qstore_n (i := 3) (r := (some y186)) (lv' := [(0, va_rf (some a0)), (1, va_rf (some a173)), (3, va_rf (some y186)), (4, va_rf (some a173)), (5, va_rf none), (6, va_rf (some y186))]) dJ22_afterNodeAccess_223 rfl (Nat.le_of_ble_eq_true rfl) rfl rfl ?_
                refine v_qload_n (r := (some y186)) (i := 3) dJ22_afterNodeAccess_224 rfl rfl ?_
                refine v_ifnonnullR 237 dJ22_afterNodeAccess_225 (by decide) ?_
                refine v_qload (r := (some a173)) (i := 4) dJ22_afterNodeAccess_237 rfl ?_
                refine v_qload_n (r := (some y186)) (i := 3) dJ22_afterNodeAccess_239 rfl rfl ?_
                replace hf := pF_e hf
                obtain ⟨fs248, hh249, hf⟩ := hf
                refine v_putf (v := va_rf (some y186)) (T := TJ31) (ci := 21) (ty := .object "java/util/LinkedHashMap$Entry") 5 dJ22_afterNodeAccess_240 q1112 rfl in_J31 tyJ31 tyJ31_ok nmJ31 (Nat.le_of_ble_eq_true rfl) (Or.inl rfl) rfl (by decide +kernel) (rf_nar _ _) (rf_fit _ _) hh249 ?_
                obtain ⟨h250, eh250⟩ : ∃ z, z = hs h245 a173 (true, .inr (21, fs248.set 5 (va_rf (some y186)))) := ⟨_, rfl⟩
                try rw [← eh250] at hf
                rw [← eh250]
                refine v_qload_n (r := (some y186)) (i := 3) dJ22_afterNodeAccess_243 rfl rfl ?_
                refine v_qload (r := (some a173)) (i := 4) dJ22_afterNodeAccess_244 rfl ?_
                replace hf := pF_e hf
                obtain ⟨fs251, hh252, hf⟩ := hf
                refine v_putf (v := va_rf (some a173)) (T := TJ31) (ci := 21) (ty := .object "java/util/LinkedHashMap$Entry") 4 dJ22_afterNodeAccess_246 q1110 rfl in_J31 tyJ31 tyJ31_ok nmJ31 (Nat.le_of_ble_eq_true rfl) (Or.inl rfl) rfl (by decide +kernel) (rf_nar _ _) (rf_fit _ _) hh252 ?_
                obtain ⟨h253, eh253⟩ : ∃ z, z = hs h250 y186 (true, .inr (21, fs251.set 4 (va_rf (some a173)))) := ⟨_, rfl⟩
                try rw [← eh253] at hf
                rw [← eh253]
                refine v_qload_n (r := (some a0)) (i := 0) dJ22_afterNodeAccess_249 rfl rfl ?_
                refine v_qload (r := (some a173)) (i := 4) dJ22_afterNodeAccess_250 rfl ?_
                replace hf := pF_e hf
                obtain ⟨fs254, hh255, hf⟩ := hf
                refine v_putf (v := va_rf (some a173)) (T := TJ22) (ci := 17) (ty := .object "java/util/LinkedHashMap$Entry") 8 dJ22_afterNodeAccess_252 q813 rfl in_J22 tyJ22 tyJ22_ok nmJ22 (Nat.le_of_ble_eq_true rfl) (Or.inl rfl) rfl (by decide +kernel) (rf_nar _ _) (rf_fit _ _) hh255 ?_
                obtain ⟨h256, eh256⟩ : ∃ z, z = hs h253 a0 (true, .inr (17, fs254.set 8 (va_rf (some a173)))) := ⟨_, rfl⟩
                try rw [← eh256] at hf
                rw [← eh256]
                refine v_qload_n (r := (some a0)) (i := 0) dJ22_afterNodeAccess_255 rfl rfl ?_
                refine v_dup dJ22_afterNodeAccess_256 (rf_cat _) ?_
                replace hf := gI_e hf
                obtain ⟨w258, fs259, i257, hh260, hk261, hf⟩ := hf
                refine v_getf (T := TJ22) (ci := 17) 3 dJ22_afterNodeAccess_257 q829 rfl in_J22 (Nat.le_of_ble_eq_true rfl) (Or.inr q828) hh260 hk261 ?_
                refine v_iconst (v := 1) dJ22_afterNodeAccess_260 (by decide) ?_
                refine v_iadd dJ22_afterNodeAccess_261 ?_
                replace hf := pF_e hf
                obtain ⟨fs262, hh263, hf⟩ := hf
                refine v_putf (v := .int (i257 + (1 : Int32))) (T := TJ22) (ci := 17) (ty := .int) 3 dJ22_afterNodeAccess_262 q829 rfl in_J22 tyJ22 tyJ22_ok nmJ22 (Nat.le_of_ble_eq_true rfl) (Or.inr q828) rfl (by decide +kernel) rfl rfl hh263 ?_
                obtain ⟨h264, eh264⟩ : ∃ z, z = hs h256 a0 (true, .inr (17, fs262.set 3 (.int (i257 + (1 : Int32))))) := ⟨_, rfl⟩
                try rw [← eh264] at hf
                rw [← eh264]
                exact v_vret dJ22_afterNodeAccess_265 rfl ⟨rfl, hf⟩
              · replace hf := hf.2 y246 e247
                subst e247
                refine v_qload (r := (some y246)) (i := 5) dJ22_afterNodeAccess_211 rfl ?_
                refine v_qload (r := (some y186)) (i := 6) dJ22_afterNodeAccess_213 rfl ?_
                replace hf := pF_e hf
                obtain ⟨fs265, hh266, hf⟩ := hf
                refine v_putf (v := va_rf (some y186)) (T := TJ31) (ci := 21) (ty := .object "java/util/LinkedHashMap$Entry") 5 dJ22_afterNodeAccess_215 q1112 rfl in_J31 tyJ31 tyJ31_ok nmJ31 (Nat.le_of_ble_eq_true rfl) (Or.inl rfl) rfl (by decide +kernel) (rf_nar _ _) (rf_fit _ _) hh266 ?_
                obtain ⟨h267, eh267⟩ : ∃ z, z = hs h245 y246 (true, .inr (21, fs265.set 5 (va_rf (some y186)))) := ⟨_, rfl⟩
                try rw [← eh267] at hf
                rw [← eh267]
                refine v_goto 224 dJ22_afterNodeAccess_218 (by decide) ?_
                refine v_qload_n (r := r166) (i := 3) dJ22_afterNodeAccess_224 rfl rfl ?_
                refine v_ifnonnull 237 dJ22_afterNodeAccess_225 (by decide) (fun y268 e269 => ?_) (fun e269 => ?_)
                · replace hf := hf.2 y268 e269
                  subst e269
                  refine v_qload (r := (some a173)) (i := 4) dJ22_afterNodeAccess_237 rfl ?_
                  refine v_qload_n (r := (some y268)) (i := 3) dJ22_afterNodeAccess_239 rfl rfl ?_
                  replace hf := pF_e hf
                  obtain ⟨fs284, hh285, hf⟩ := hf
                  refine v_putf (v := va_rf (some y268)) (T := TJ31) (ci := 21) (ty := .object "java/util/LinkedHashMap$Entry") 5 dJ22_afterNodeAccess_240 q1112 rfl in_J31 tyJ31 tyJ31_ok nmJ31 (Nat.le_of_ble_eq_true rfl) (Or.inl rfl) rfl (by decide +kernel) (rf_nar _ _) (rf_fit _ _) hh285 ?_
                  obtain ⟨h286, eh286⟩ : ∃ z, z = hs h267 a173 (true, .inr (21, fs284.set 5 (va_rf (some y268)))) := ⟨_, rfl⟩
                  try rw [← eh286] at hf
                  rw [← eh286]
                  refine v_qload_n (r := (some y268)) (i := 3) dJ22_afterNodeAccess_243 rfl rfl ?_
                  refine v_qload (r := (some a173)) (i := 4) dJ22_afterNodeAccess_244 rfl ?_
                  replace hf := pF_e hf
                  obtain ⟨fs287, hh288, hf⟩ := hf
                  refine v_putf (v := va_rf (some a173)) (T := TJ31) (ci := 21) (ty := .object "java/util/LinkedHashMap$Entry") 4 dJ22_afterNodeAccess_246 q1110 rfl in_J31 tyJ31 tyJ31_ok nmJ31 (Nat.le_of_ble_eq_true rfl) (Or.inl rfl) rfl (by decide +kernel) (rf_nar _ _) (rf_fit _ _) hh288 ?_
                  obtain ⟨h289, eh289⟩ : ∃ z, z = hs h286 y268 (true, .inr (21, fs287.set 4 (va_rf (some a173)))) := ⟨_, rfl⟩
                  try rw [← eh289] at hf
                  rw [← eh289]
                  refine v_qload_n (r := (some a0)) (i := 0) dJ22_afterNodeAccess_249 rfl rfl ?_
                  refine v_qload (r := (some a173)) (i := 4) dJ22_afterNodeAccess_250 rfl ?_
                  replace hf := pF_e hf
                  obtain ⟨fs290, hh291, hf⟩ := hf
                  refine v_putf (v := va_rf (some a173)) (T := TJ22) (ci := 17) (ty := .object "java/util/LinkedHashMap$Entry") 8 dJ22_afterNodeAccess_252 q813 rfl in_J22 tyJ22 tyJ22_ok nmJ22 (Nat.le_of_ble_eq_true rfl) (Or.inl rfl) rfl (by decide +kernel) (rf_nar _ _) (rf_fit _ _) hh291 ?_
                  obtain ⟨h292, eh292⟩ : ∃ z, z = hs h289 a0 (true, .inr (17, fs290.set 8 (va_rf (some a173)))) := ⟨_, rfl⟩
                  try rw [← eh292] at hf
                  rw [← eh292]
                  refine v_qload_n (r := (some a0)) (i := 0) dJ22_afterNodeAccess_255 rfl rfl ?_
                  refine v_dup dJ22_afterNodeAccess_256 (rf_cat _) ?_
                  replace hf := gI_e hf
                  obtain ⟨w294, fs295, i293, hh296, hk297, hf⟩ := hf
                  refine v_getf (T := TJ22) (ci := 17) 3 dJ22_afterNodeAccess_257 q829 rfl in_J22 (Nat.le_of_ble_eq_true rfl) (Or.inr q828) hh296 hk297 ?_
                  refine v_iconst (v := 1) dJ22_afterNodeAccess_260 (by decide) ?_
                  refine v_iadd dJ22_afterNodeAccess_261 ?_
                  replace hf := pF_e hf
                  obtain ⟨fs298, hh299, hf⟩ := hf
                  refine v_putf (v := .int (i293 + (1 : Int32))) (T := TJ22) (ci := 17) (ty := .int) 3 dJ22_afterNodeAccess_262 q829 rfl in_J22 tyJ22 tyJ22_ok nmJ22 (Nat.le_of_ble_eq_true rfl) (Or.inr q828) rfl (by decide +kernel) rfl rfl hh299 ?_
                  obtain ⟨h300, eh300⟩ : ∃ z, z = hs h292 a0 (true, .inr (17, fs298.set 3 (.int (i293 + (1 : Int32))))) := ⟨_, rfl⟩
                  try rw [← eh300] at hf
                  rw [← eh300]
                  exact v_vret dJ22_afterNodeAccess_265 rfl ⟨rfl, hf⟩
                · replace hf := hf.1 e269
                  subst e269
                  refine v_qload_n (r := (some a0)) (i := 0) dJ22_afterNodeAccess_228 rfl rfl ?_
                  refine v_qload (r := (some a173)) (i := 4) dJ22_afterNodeAccess_229 rfl ?_
                  replace hf := pF_e hf
                  obtain ⟨fs270, hh271, hf⟩ := hf
                  refine v_putf (v := va_rf (some a173)) (T := TJ22) (ci := 17) (ty := .object "java/util/LinkedHashMap$Entry") 9 dJ22_afterNodeAccess_231 q816 rfl in_J22 tyJ22 tyJ22_ok nmJ22 (Nat.le_of_ble_eq_true rfl) (Or.inl rfl) rfl (by decide +kernel) (rf_nar _ _) (rf_fit _ _) hh271 ?_
                  obtain ⟨h272, eh272⟩ : ∃ z, z = hs h267 a0 (true, .inr (17, fs270.set 9 (va_rf (some a173)))) := ⟨_, rfl⟩
                  try rw [← eh272] at hf
                  rw [← eh272]
                  refine v_goto 249 dJ22_afterNodeAccess_234 (by decide) ?_
                  refine v_qload_n (r := (some a0)) (i := 0) dJ22_afterNodeAccess_249 rfl rfl ?_
                  refine v_qload (r := (some a173)) (i := 4) dJ22_afterNodeAccess_250 rfl ?_
                  replace hf := pF_e hf
                  obtain ⟨fs273, hh274, hf⟩ := hf
                  refine v_putf (v := va_rf (some a173)) (T := TJ22) (ci := 17) (ty := .object "java/util/LinkedHashMap$Entry") 8 dJ22_afterNodeAccess_252 q813 rfl in_J22 tyJ22 tyJ22_ok nmJ22 (Nat.le_of_ble_eq_true rfl) (Or.inl rfl) rfl (by decide +kernel) (rf_nar _ _) (rf_fit _ _) hh274 ?_
                  obtain ⟨h275, eh275⟩ : ∃ z, z = hs h272 a0 (true, .inr (17, fs273.set 8 (va_rf (some a173)))) := ⟨_, rfl⟩
                  try rw [← eh275] at hf
                  rw [← eh275]
                  refine v_qload_n (r := (some a0)) (i := 0) dJ22_afterNodeAccess_255 rfl rfl ?_
                  refine v_dup dJ22_afterNodeAccess_256 (rf_cat _) ?_
                  replace hf := gI_e hf
                  obtain ⟨w277, fs278, i276, hh279, hk280, hf⟩ := hf
                  refine v_getf (T := TJ22) (ci := 17) 3 dJ22_afterNodeAccess_257 q829 rfl in_J22 (Nat.le_of_ble_eq_true rfl) (Or.inr q828) hh279 hk280 ?_
                  refine v_iconst (v := 1) dJ22_afterNodeAccess_260 (by decide) ?_
                  refine v_iadd dJ22_afterNodeAccess_261 ?_
                  replace hf := pF_e hf
                  obtain ⟨fs281, hh282, hf⟩ := hf
                  refine v_putf (v := .int (i276 + (1 : Int32))) (T := TJ22) (ci := 17) (ty := .int) 3 dJ22_afterNodeAccess_262 q829 rfl in_J22 tyJ22 tyJ22_ok nmJ22 (Nat.le_of_ble_eq_true rfl) (Or.inr q828) rfl (by decide +kernel) rfl rfl hh282 ?_
                  obtain ⟨h283, eh283⟩ : ∃ z, z = hs h275 a0 (true, .inr (17, fs281.set 3 (.int (i276 + (1 : Int32))))) := ⟨_, rfl⟩
                  try rw [← eh283] at hf
                  rw [← eh283]
                  exact v_vret dJ22_afterNodeAccess_265 rfl ⟨rfl, hf⟩
            · replace hf := hf.1 e187
              subst e187
              refine v_qload_n (r := (some a0)) (i := 0) dJ22_afterNodeAccess_190 rfl rfl ?_
              refine v_qload (r := r172) (i := 5) dJ22_afterNodeAccess_191 rfl ?_
              replace hf := pF_e hf
              obtain ⟨fs188, hh189, hf⟩ := hf
              refine v_putf (v := va_rf r172) (T := TJ22) (ci := 17) (ty := .object "java/util/LinkedHashMap$Entry") 9 dJ22_afterNodeAccess_193 q816 rfl in_J22 tyJ22 tyJ22_ok nmJ22 (Nat.le_of_ble_eq_true rfl) (Or.inl rfl) rfl (by decide +kernel) (rf_nar _ _) (rf_fit _ _) hh189 ?_
              obtain ⟨h190, eh190⟩ : ∃ z, z = hs h185 a0 (true, .inr (17, fs188.set 9 (va_rf r172))) := ⟨_, rfl⟩
              try rw [← eh190] at hf
              rw [← eh190]
              refine v_goto 206 dJ22_afterNodeAccess_196 (by decide) ?_
              refine v_qload (r := r172) (i := 5) dJ22_afterNodeAccess_206 rfl ?_
              refine v_ifnull 221 dJ22_afterNodeAccess_208 (by decide) (fun e192 => ?_) (fun y191 e192 => ?_)
              · replace hf := hf.1 e192
                subst e192
                refine v_qload (r := none) (i := 6) dJ22_afterNodeAccess_221 rfl ?_
                refine v_qstore_n (i := 3) (r := none) (lv' := [(0, va_rf (some a0)), (1, va_rf (some a173)), (3, va_rf none), (4, va_rf (some a173)), (5, va_rf none), (6, va_rf none)]) dJ22_afterNodeAccess_223 rfl (Nat.le_of_ble_eq_true rfl) rfl rfl ?_
                refine v_qload_n (r := none) (i := 3) dJ22_afterNodeAccess_224 rfl rfl ?_
                refine v_ifnonnullN dJ22_afterNodeAccess_225 ?_
                refine v_qload_n (r := (some a0)) (i := 0) dJ22_afterNodeAccess_228 rfl rfl ?_
                refine v_qload (r := (some a173)) (i := 4) dJ22_afterNodeAccess_229 rfl ?_
                replace hf := pF_e hf
                obtain ⟨fs193, hh194, hf⟩ := hf
                refine v_putf (v := va_rf (some a173)) (T := TJ22) (ci := 17) (ty := .object "java/util/LinkedHashMap$Entry") 9 dJ22_afterNodeAccess_231 q816 rfl in_J22 tyJ22 tyJ22_ok nmJ22 (Nat.le_of_ble_eq_true rfl) (Or.inl rfl) rfl (by decide +kernel) (rf_nar _ _) (rf_fit _ _) hh194 ?_
                obtain ⟨h195, eh195⟩ : ∃ z, z = hs h190 a0 (true, .inr (17, fs193.set 9 (va_rf (some a173)))) := ⟨_, rfl⟩
                try rw [← eh195] at hf
                rw [← eh195]
                refine v_goto 249 dJ22_afterNodeAccess_234 (by decide) ?_
                refine v_qload_n (r := (some a0)) (i := 0) dJ22_afterNodeAccess_249 rfl rfl ?_
                refine v_qload (r := (some a173)) (i := 4) dJ22_afterNodeAccess_250 rfl ?_
                replace hf := pF_e hf
                obtain ⟨fs196, hh197, hf⟩ := hf
                refine v_putf (v := va_rf (some a173)) (T := TJ22) (ci := 17) (ty := .object "java/util/LinkedHashMap$Entry") 8 dJ22_afterNodeAccess_252 q813 rfl in_J22 tyJ22 tyJ22_ok nmJ22 (Nat.le_of_ble_eq_true rfl) (Or.inl rfl) rfl (by decide +kernel) (rf_nar _ _) (rf_fit _ _) hh197 ?_
                obtain ⟨h198, eh198⟩ : ∃ z, z = hs h195 a0 (true, .inr (17, fs196.set 8 (va_rf (some a173)))) := ⟨_, rfl⟩
                try rw [← eh198] at hf
                rw [← eh198]
                refine v_qload_n (r := (some a0)) (i := 0) dJ22_afterNodeAccess_255 rfl rfl ?_
                refine v_dup dJ22_afterNodeAccess_256 (rf_cat _) ?_
                replace hf := gI_e hf
                obtain ⟨w200, fs201, i199, hh202, hk203, hf⟩ := hf
                refine v_getf (T := TJ22) (ci := 17) 3 dJ22_afterNodeAccess_257 q829 rfl in_J22 (Nat.le_of_ble_eq_true rfl) (Or.inr q828) hh202 hk203 ?_
                refine v_iconst (v := 1) dJ22_afterNodeAccess_260 (by decide) ?_
                refine v_iadd dJ22_afterNodeAccess_261 ?_
                replace hf := pF_e hf
                obtain ⟨fs204, hh205, hf⟩ := hf
                refine v_putf (v := .int (i199 + (1 : Int32))) (T := TJ22) (ci := 17) (ty := .int) 3 dJ22_afterNodeAccess_262 q829 rfl in_J22 tyJ22 tyJ22_ok nmJ22 (Nat.le_of_ble_eq_true rfl) (Or.inr q828) rfl (by decide +kernel) rfl rfl hh205 ?_
                obtain ⟨h206, eh206⟩ : ∃ z, z = hs h198 a0 (true, .inr (17, fs204.set 3 (.int (i199 + (1 : Int32))))) := ⟨_, rfl⟩
                try rw [← eh206] at hf
                rw [← eh206]
                exact v_vret dJ22_afterNodeAccess_265 rfl ⟨rfl, hf⟩
              · replace hf := hf.2 y191 e192
                subst e192
                refine v_qload (r := (some y191)) (i := 5) dJ22_afterNodeAccess_211 rfl ?_
                refine v_qload (r := none) (i := 6) dJ22_afterNodeAccess_213 rfl ?_
                replace hf := pF_e hf
                obtain ⟨fs207, hh208, hf⟩ := hf
                refine v_putf (v := va_rf none) (T := TJ31) (ci := 21) (ty := .object "java/util/LinkedHashMap$Entry") 5 dJ22_afterNodeAccess_215 q1112 rfl in_J31 tyJ31 tyJ31_ok nmJ31 (Nat.le_of_ble_eq_true rfl) (Or.inl rfl) rfl (by decide +kernel) (rf_nar _ _) (rf_fit _ _) hh208 ?_
                obtain ⟨h209, eh209⟩ : ∃ z, z = hs h190 y191 (true, .inr (21, fs207.set 5 (va_rf none))) := ⟨_, rfl⟩
                try rw [← eh209] at hf
                rw [← eh209]
                refine v_goto 224 dJ22_afterNodeAccess_218 (by decide) ?_
                refine v_qload_n (r := r166) (i := 3) dJ22_afterNodeAccess_224 rfl rfl ?_
                refine v_ifnonnull 237 dJ22_afterNodeAccess_225 (by decide) (fun y210 e211 => ?_) (fun e211 => ?_)
                · replace hf := hf.2 y210 e211
                  subst e211
                  refine v_qload (r := (some a173)) (i := 4) dJ22_afterNodeAccess_237 rfl ?_
                  refine v_qload_n (r := (some y210)) (i := 3) dJ22_afterNodeAccess_239 rfl rfl ?_
                  replace hf := pF_e hf
                  obtain ⟨fs226, hh227, hf⟩ := hf
                  refine v_putf (v := va_rf (some y210)) (T := TJ31) (ci := 21) (ty := .object "java/util/LinkedHashMap$Entry") 5 dJ22_afterNodeAccess_240 q1112 rfl in_J31 tyJ31 tyJ31_ok nmJ31 (Nat.le_of_ble_eq_true rfl) (Or.inl rfl) rfl (by decide +kernel) (rf_nar _ _) (rf_fit _ _) hh227 ?_
                  obtain ⟨h228, eh228⟩ : ∃ z, z = hs h209 a173 (true, .inr (21, fs226.set 5 (va_rf (some y210)))) := ⟨_, rfl⟩
                  try rw [← eh228] at hf
                  rw [← eh228]
                  refine v_qload_n (r := (some y210)) (i := 3) dJ22_afterNodeAccess_243 rfl rfl ?_
                  refine v_qload (r := (some a173)) (i := 4) dJ22_afterNodeAccess_244 rfl ?_
                  replace hf := pF_e hf
                  obtain ⟨fs229, hh230, hf⟩ := hf
                  refine v_putf (v := va_rf (some a173)) (T := TJ31) (ci := 21) (ty := .object "java/util/LinkedHashMap$Entry") 4 dJ22_afterNodeAccess_246 q1110 rfl in_J31 tyJ31 tyJ31_ok nmJ31 (Nat.le_of_ble_eq_true rfl) (Or.inl rfl) rfl (by decide +kernel) (rf_nar _ _) (rf_fit _ _) hh230 ?_
                  obtain ⟨h231, eh231⟩ : ∃ z, z = hs h228 y210 (true, .inr (21, fs229.set 4 (va_rf (some a173)))) := ⟨_, rfl⟩
                  try rw [← eh231] at hf
                  rw [← eh231]
                  refine v_qload_n (r := (some a0)) (i := 0) dJ22_afterNodeAccess_249 rfl rfl ?_
                  refine v_qload (r := (some a173)) (i := 4) dJ22_afterNodeAccess_250 rfl ?_
                  replace hf := pF_e hf
                  obtain ⟨fs232, hh233, hf⟩ := hf
                  refine v_putf (v := va_rf (some a173)) (T := TJ22) (ci := 17) (ty := .object "java/util/LinkedHashMap$Entry") 8 dJ22_afterNodeAccess_252 q813 rfl in_J22 tyJ22 tyJ22_ok nmJ22 (Nat.le_of_ble_eq_true rfl) (Or.inl rfl) rfl (by decide +kernel) (rf_nar _ _) (rf_fit _ _) hh233 ?_
                  obtain ⟨h234, eh234⟩ : ∃ z, z = hs h231 a0 (true, .inr (17, fs232.set 8 (va_rf (some a173)))) := ⟨_, rfl⟩
                  try rw [← eh234] at hf
                  rw [← eh234]
                  refine v_qload_n (r := (some a0)) (i := 0) dJ22_afterNodeAccess_255 rfl rfl ?_
                  refine v_dup dJ22_afterNodeAccess_256 (rf_cat _) ?_
                  replace hf := gI_e hf
                  obtain ⟨w236, fs237, i235, hh238, hk239, hf⟩ := hf
                  refine v_getf (T := TJ22) (ci := 17) 3 dJ22_afterNodeAccess_257 q829 rfl in_J22 (Nat.le_of_ble_eq_true rfl) (Or.inr q828) hh238 hk239 ?_
                  refine v_iconst (v := 1) dJ22_afterNodeAccess_260 (by decide) ?_
                  refine v_iadd dJ22_afterNodeAccess_261 ?_
                  replace hf := pF_e hf
                  obtain ⟨fs240, hh241, hf⟩ := hf
                  refine v_putf (v := .int (i235 + (1 : Int32))) (T := TJ22) (ci := 17) (ty := .int) 3 dJ22_afterNodeAccess_262 q829 rfl in_J22 tyJ22 tyJ22_ok nmJ22 (Nat.le_of_ble_eq_true rfl) (Or.inr q828) rfl (by decide +kernel) rfl rfl hh241 ?_
                  obtain ⟨h242, eh242⟩ : ∃ z, z = hs h234 a0 (true, .inr (17, fs240.set 3 (.int (i235 + (1 : Int32))))) := ⟨_, rfl⟩
                  try rw [← eh242] at hf
                  rw [← eh242]
                  exact v_vret dJ22_afterNodeAccess_265 rfl ⟨rfl, hf⟩
                · replace hf := hf.1 e211
                  subst e211
                  refine v_qload_n (r := (some a0)) (i := 0) dJ22_afterNodeAccess_228 rfl rfl ?_
                  refine v_qload (r := (some a173)) (i := 4) dJ22_afterNodeAccess_229 rfl ?_
                  replace hf := pF_e hf
                  obtain ⟨fs212, hh213, hf⟩ := hf
                  refine v_putf (v := va_rf (some a173)) (T := TJ22) (ci := 17) (ty := .object "java/util/LinkedHashMap$Entry") 9 dJ22_afterNodeAccess_231 q816 rfl in_J22 tyJ22 tyJ22_ok nmJ22 (Nat.le_of_ble_eq_true rfl) (Or.inl rfl) rfl (by decide +kernel) (rf_nar _ _) (rf_fit _ _) hh213 ?_
                  obtain ⟨h214, eh214⟩ : ∃ z, z = hs h209 a0 (true, .inr (17, fs212.set 9 (va_rf (some a173)))) := ⟨_, rfl⟩
                  try rw [← eh214] at hf
                  rw [← eh214]
                  refine v_goto 249 dJ22_afterNodeAccess_234 (by decide) ?_
                  refine v_qload_n (r := (some a0)) (i := 0) dJ22_afterNodeAccess_249 rfl rfl ?_
                  refine v_qload (r := (some a173)) (i := 4) dJ22_afterNodeAccess_250 rfl ?_
                  replace hf := pF_e hf
                  obtain ⟨fs215, hh216, hf⟩ := hf
                  refine v_putf (v := va_rf (some a173)) (T := TJ22) (ci := 17) (ty := .object "java/util/LinkedHashMap$Entry") 8 dJ22_afterNodeAccess_252 q813 rfl in_J22 tyJ22 tyJ22_ok nmJ22 (Nat.le_of_ble_eq_true rfl) (Or.inl rfl) rfl (by decide +kernel) (rf_nar _ _) (rf_fit _ _) hh216 ?_
                  obtain ⟨h217, eh217⟩ : ∃ z, z = hs h214 a0 (true, .inr (17, fs215.set 8 (va_rf (some a173)))) := ⟨_, rfl⟩
                  try rw [← eh217] at hf
                  rw [← eh217]
                  refine v_qload_n (r := (some a0)) (i := 0) dJ22_afterNodeAccess_255 rfl rfl ?_
                  refine v_dup dJ22_afterNodeAccess_256 (rf_cat _) ?_
                  replace hf := gI_e hf
                  obtain ⟨w219, fs220, i218, hh221, hk222, hf⟩ := hf
                  refine v_getf (T := TJ22) (ci := 17) 3 dJ22_afterNodeAccess_257 q829 rfl in_J22 (Nat.le_of_ble_eq_true rfl) (Or.inr q828) hh221 hk222 ?_
                  refine v_iconst (v := 1) dJ22_afterNodeAccess_260 (by decide) ?_
                  refine v_iadd dJ22_afterNodeAccess_261 ?_
                  replace hf := pF_e hf
                  obtain ⟨fs223, hh224, hf⟩ := hf
                  refine v_putf (v := .int (i218 + (1 : Int32))) (T := TJ22) (ci := 17) (ty := .int) 3 dJ22_afterNodeAccess_262 q829 rfl in_J22 tyJ22 tyJ22_ok nmJ22 (Nat.le_of_ble_eq_true rfl) (Or.inr q828) rfl (by decide +kernel) rfl rfl hh224 ?_
                  obtain ⟨h225, eh225⟩ : ∃ z, z = hs h217 a0 (true, .inr (17, fs223.set 3 (.int (i218 + (1 : Int32))))) := ⟨_, rfl⟩
                  try rw [← eh225] at hf
                  rw [← eh225]
                  exact v_vret dJ22_afterNodeAccess_265 rfl ⟨rfl, hf⟩
      · replace hf := hf.2 c159
        exact hf.elim
abbrev Y_J22_removeEldestEntry : Yt := (yJ22_removeEldestEntry, some (.boolean), 1, 40, [])
def f_J22_removeEldestEntry (G : Gt) (h : Hp) (t_0 : Option Nat) (r_1 : Option Nat) (K : Int32 → Hp → Prop) : Prop :=
K (0 : Int32) h
theorem m_J22_removeEldestEntry {G : Gt} {h : Hp} {a0 : Nat} {r_1 : Option Nat} {K : Int32 → Hp → Prop} (hG : Base G) (hf : f_J22_removeEldestEntry G h (some a0) r_1 K) : MM G Y_J22_removeEldestEntry cJ22_removeEldestEntry 2 0 0 [.ref a0, va_rf r_1] h (kI K) xN := by
  refine mm_of hG (by decide +kernel) rfl (ac_c rfl (ac_c (rf_cat _) ac_nil)) (Nat.le_of_ble_eq_true rfl) (fun E _ _ => ?_)
  show V G E Y_J22_removeEldestEntry cJ22_removeEldestEntry 2 (QM G E (kI K) xN) h 0 0 0 [(0, .ref a0), (1, va_rf r_1)] []
  unfold f_J22_removeEldestEntry at hf
  refine v_iconst (v := 0) dJ22_removeEldestEntry_0 (by decide) ?_
  exact v_zret dJ22_removeEldestEntry_1 rfl (by decide) ⟨_, rfl, hf⟩
abbrev Y_J22_afterNodeInsertion : Yt := (yJ22_afterNodeInsertion, none, 2, 61, [])
def f_J22_afterNodeInsertion (G : Gt) (h : Hp) (t_0 : Option Nat) (i_1 : Int32) (K : Hp → Prop) : Prop :=
((i_1 = 0 → K h) ∧
(¬ (i_1 = 0) → gR h t_0 17 8 fun r2 =>
((r2 = none → K h) ∧
(∀ y7, r2 = some y7 → rv h t_0 17 (f_J22_removeEldestEntry G h t_0 r2 (fun i13 h12 =>
((i13 = 0 → K h12) ∧
(¬ (i13 = 0) → gR h12 r2 21 1 fun r15 =>
False))))))))
theorem m_J22_afterNodeInsertion {G : Gt} {h : Hp} {a0 : Nat} {i_1 : Int32} {K : Hp → Prop} (hG : Base G) (hf : f_J22_afterNodeInsertion G h (some a0) i_1 K) : MM G Y_J22_afterNodeInsertion cJ22_afterNodeInsertion 4 0 0 [.ref a0, .int i_1] h (kV K) xN := by
  refine mm_of hG (by decide +kernel) rfl (ac_c rfl (ac_c rfl ac_nil)) (Nat.le_of_ble_eq_true rfl) (fun E _ _ => ?_)
  show V G E Y_J22_afterNodeInsertion cJ22_afterNodeInsertion 4 (QM G E (kV K) xN) h 0 0 0 [(0, .ref a0), (1, .int i_1)] []
  unfold f_J22_afterNodeInsertion at hf
  refine v_iload_n (i := 1) dJ22_afterNodeInsertion_0 rfl rfl ?_
  refine v_if_eq 39 dJ22_afterNodeInsertion_1 (by decide) (fun c1 => ?_) (fun c1 => ?_)
  · replace hf := hf.1 c1
    exact v_vret dJ22_afterNodeInsertion_39 rfl ⟨rfl, hf⟩
  · replace hf := hf.2 c1
    refine v_qload_n (r := (some a0)) (i := 0) dJ22_afterNodeInsertion_4 rfl rfl ?_
    replace hf := gR_e hf
    obtain ⟨w3, fs4, r2, hh5, hk6, hf⟩ := hf
    refine v_getf (T := TJ22) (ci := 17) 8 dJ22_afterNodeInsertion_5 q813 rfl in_J22 (Nat.le_of_ble_eq_true rfl) (Or.inl rfl) hh5 hk6 ?_
    refine v_dup dJ22_afterNodeInsertion_8 (rf_cat _) ?_
    refine v_qstore_n (i := 2) (r := r2) (lv' := [(0, va_rf (some a0)), (1, .int i_1), (2, va_rf r2)]) dJ22_afterNodeInsertion_9 rfl (Nat.le_of_ble_eq_true rfl) rfl rfl ?_
    refine v_ifnull 39 dJ22_afterNodeInsertion_10 (by decide) (fun e8 => ?_) (fun y7 e8 => ?_)
    · replace hf := hf.1 e8
      subst e8
      exact v_vret dJ22_afterNodeInsertion_39 rfl ⟨rfl, hf⟩
    · replace hf := hf.2 y7 e8
      subst e8
      refine v_qload_n (r := (some a0)) (i := 0) dJ22_afterNodeInsertion_13 rfl rfl ?_
      refine v_qload_n (r := (some y7)) (i := 2) dJ22_afterNodeInsertion_14 rfl rfl ?_
      replace hf := rv_e hf
      obtain ⟨w9, fs10, hh11, hf⟩ := hf
      refine V.addK0 ?_
      refine V.addN0 ?_
      refine v_callV (mc := 0) (ms := 0) 1 dJ22_afterNodeInsertion_15 (m_J22_removeEldestEntry hG hf) rfl hh11 rfl (lw_V q1512 q1513 q1514 q117 q1515) rfl (by decide +kernel) (by decide) rfl (cat_len (Nat.le_of_ble_eq_true rfl)) (kk_I fun i13 h12 hg => ?_) (fun _ _ _ hx => hx.elim)
      replace hf := hg
      clear hg
      refine v_if_eq 39 dJ22_afterNodeInsertion_18 (by decide) (fun c14 => ?_) (fun c14 => ?_)
      · replace hf := hf.1 c14
        exact v_vret dJ22_afterNodeInsertion_39 rfl ⟨rfl, hf⟩
      · replace hf := hf.2 c14
        refine v_qload_n (r := (some y7)) (i := 2) dJ22_afterNodeInsertion_21 rfl rfl ?_
        replace hf := gR_e hf
        obtain ⟨w16, fs17, r15, hh18, hk19, hf⟩ := hf
        refine v_getf (T := TJ31) (ci := 21) 1 dJ22_afterNodeInsertion_22 q1124 rfl in_J31 (Nat.le_of_ble_eq_true rfl) (Or.inr q1125) hh18 hk19 ?_
        refine v_qstore_n (i := 3) (r := r15) (lv' := [(0, va_rf (some a0)), (1, .int i_1), (2, va_rf (some y7)), (3, va_rf r15)]) dJ22_afterNodeInsertion_25 rfl (Nat.le_of_ble_eq_true rfl) rfl rfl ?_
        refine v_qload_n (r := (some a0)) (i := 0) dJ22_afterNodeInsertion_26 rfl rfl ?_
        refine v_qload_n (r := r15) (i := 3) dJ22_afterNodeInsertion_27 rfl rfl ?_
        exact hf.elim
abbrev Y_J21_putVal : Yt := (yJ21_putVal, some (.object "java/lang/Object"), 4, 113, [])
def g_J21_putVal_0 (G : Gt) (E : Ev) (h : Hp) (k n : Nat) (a0 : Nat) (i_1 : Int32) (r_2 : Option Nat) (r_3 : Option Nat) (i_4 : Int32) (i_5 : Int32) (K : Option Nat → Hp → Prop) : Prop :=
gR h (some a0) 17 0 fun r1 =>
((r1 = none → rv h (some a0) 17 (dR G Y_J21_resize cJ21_resize 14 [va_rf (some a0)] h k n (fun r12 h11 k15 n16 =>
aL h11 r12 fun i22 =>
V G E Y_J21_putVal cJ21_putVal 13 (QM G E (kR K) xN) h11 k15 n16 29 [(0, .ref a0), (1, .int i_1), (2, va_rf r_2), (3, va_rf r_3), (4, .int i_4), (5, .int i_5), (6, va_rf r12), (8, .int i22)] []) xN)) ∧
(∀ y6, r1 = some y6 → aL h r1 fun i27 =>
((¬ (i27 = 0) → V G E Y_J21_putVal cJ21_putVal 13 (QM G E (kR K) xN) h k n 29 [(0, .ref a0), (1, .int i_1), (2, va_rf r_2), (3, va_rf r_3), (4, .int i_4), (5, .int i_5), (6, va_rf r1), (8, .int i27)] []) ∧
(i27 = 0 → rv h (some a0) 17 (dR G Y_J21_resize cJ21_resize 14 [va_rf (some a0)] h k n (fun r33 h32 k36 n37 =>
aL h32 r33 fun i43 =>
V G E Y_J21_putVal cJ21_putVal 13 (QM G E (kR K) xN) h32 k36 n37 29 [(0, .ref a0), (1, .int i_1), (2, va_rf r_2), (3, va_rf r_3), (4, .int i_4), (5, .int i_5), (6, va_rf r33), (8, .int i43)] []) xN)))))
theorem s_J21_putVal_0 {G : Gt} {E : Ev} {h : Hp} {k0 n0 : Nat} {a0 : Nat} {i_1 : Int32} {r_2 : Option Nat} {r_3 : Option Nat} {i_4 : Int32} {i_5 : Int32} {K : Option Nat → Hp → Prop} (hG : Base G) (hA : 0 ≤ k0) (hB : 0 ≤ n0) (hf : g_J21_putVal_0 G E h (k0 - 0) (n0 - 0) a0 i_1 r_2 r_3 i_4 i_5 K) : V G E Y_J21_putVal cJ21_putVal 13 (QM G E (kR K) xN) h k0 n0 0 [(0, .ref a0), (1, .int i_1), (2, va_rf r_2), (3, va_rf r_3), (4, .int i_4), (5, .int i_5)] [] := by
  obtain ⟨k, hk9⟩ : ∃ z, z = k0 - 0 := ⟨_, rfl⟩
  obtain ⟨n, hn9⟩ : ∃ z, z = n0 - 0 := ⟨_, rfl⟩
  rw [← hk9, ← hn9] at hf
  refine V.weak (k' := k + 0) (n' := n + 0) ?_ (by omega) (by omega)
  unfold g_J21_putVal_0 at hf
  refine v_aload_n (i := 0) dJ21_putVal_0 rfl rfl ?_
  replace hf := gR_e hf
  obtain ⟨w2, fs3, r1, hh4, hk5, hf⟩ := hf
  refine v_getf (T := TJ22) (ci := 17) 0 dJ21_putVal_1 q820 rfl in_J22 (Nat.le_of_ble_eq_true rfl) (Or.inl rfl) hh4 hk5 ?_
  refine v_dup dJ21_putVal_4 (rf_cat _) ?_
  refine v_qstore (i := 6) (r := r1) (lv' := [(0, .ref a0), (1, .int i_1), (2, va_rf r_2), (3, va_rf r_3), (4, .int i_4), (5, .int i_5), (6, va_rf r1)]) dJ21_putVal_5 (Nat.le_of_ble_eq_true rfl) rfl rfl ?_
  refine v_ifnull 19 dJ21_putVal_7 (by decide) (fun e7 => ?_) (fun y6 e7 => ?_)
  · replace hf := hf.1 e7
    subst e7
    refine v_aload_n (i := 0) dJ21_putVal_19 rfl rfl ?_
    replace hf := rv_e hf
    obtain ⟨w8, fs9, hh10, hf⟩ := hf
    obtain ⟨mc13, ms14, hkmc13, hnms14, hM⟩ := hf
    refine V.weak (k' := ((k - mc13) + 0) + mc13) (n' := ((n - ms14) + 0) + ms14) ?_ (by omega) (by omega)
    refine v_callU 0 dJ21_putVal_20 hM rfl hh10 rfl (lw_U q1076 q1078 q1079 q1077 q116 q1080) rfl rfl (by decide +kernel) (by decide) rfl (cat_len (Nat.le_of_ble_eq_true rfl)) (kk_R fun r12 h11 hg => ?_) (fun _ _ _ hx => hx.elim)
    have hf := hg
    clear hg
    refine v_dup dJ21_putVal_23 (rf_cat _) ?_
    refine v_qstore (i := 6) (r := r12) (lv' := [(0, .ref a0), (1, .int i_1), (2, va_rf r_2), (3, va_rf r_3), (4, .int i_4), (5, .int i_5), (6, va_rf r12)]) dJ21_putVal_24 (Nat.le_of_ble_eq_true rfl) rfl rfl ?_
    obtain ⟨a17, rfl⟩ := aL_s hf
    replace hf := aL_e hf
    obtain ⟨w18, t19, x20, hh21, i22, ei22, hf⟩ := hf
    refine v_alen dJ21_putVal_26 hh21 ei22.symm ?_
    refine v_istore (i := 8) (lv' := [(0, .ref a0), (1, .int i_1), (2, va_rf r_2), (3, va_rf r_3), (4, .int i_4), (5, .int i_5), (6, va_rf (some a17)), (8, .int i22)]) dJ21_putVal_27 (Nat.le_of_ble_eq_true rfl) rfl rfl ?_
    exact V.weak hf (by omega) (by omega)
  · replace hf := hf.2 y6 e7
    subst e7
    refine v_qload (r := (some y6)) (i := 6) dJ21_putVal_10 rfl ?_
    replace hf := aL_e hf
    obtain ⟨w23, t24, x25, hh26, i27, ei27, hf⟩ := hf
    refine v_alen dJ21_putVal_12 hh26 ei27.symm ?_
    refine v_dup dJ21_putVal_13 rfl ?_
    refine v_istore (i := 8) (lv' := [(0, .ref a0), (1, .int i_1), (2, va_rf r_2), (3, va_rf r_3), (4, .int i_4), (5, .int i_5), (6, va_rf (some y6)), (8, .int i27)]) dJ21_putVal_14 (Nat.le_of_ble_eq_true rfl) rfl rfl ?_
    refine v_if_ne 29 dJ21_putVal_16 (by decide) (fun c28 => ?_) (fun c28 => ?_)
    · replace hf := hf.1 c28
      exact V.weak hf (by omega) (by omega)
    · replace hf := hf.2 c28
      refine v_aload_n (i := 0) dJ21_putVal_19 rfl rfl ?_
      replace hf := rv_e hf
      obtain ⟨w29, fs30, hh31, hf⟩ := hf
      obtain ⟨mc34, ms35, hkmc34, hnms35, hM⟩ := hf
      refine V.weak (k' := ((k - mc34) + 0) + mc34) (n' := ((n - ms35) + 0) + ms35) ?_ (by omega) (by omega)
      refine v_callU 0 dJ21_putVal_20 hM rfl hh31 rfl (lw_U q1076 q1078 q1079 q1077 q116 q1080) rfl rfl (by decide +kernel) (by decide) rfl (cat_len (Nat.le_of_ble_eq_true rfl)) (kk_R fun r33 h32 hg => ?_) (fun _ _ _ hx => hx.elim)
      have hf := hg
      clear hg
      refine v_dup dJ21_putVal_23 (rf_cat _) ?_
      refine v_qstore (i := 6) (r := r33) (lv' := [(0, .ref a0), (1, .int i_1), (2, va_rf r_2), (3, va_rf r_3), (4, .int i_4), (5, .int i_5), (6, va_rf r33), (8, .int i27)]) dJ21_putVal_24 (Nat.le_of_ble_eq_true rfl) rfl rfl ?_
      obtain ⟨a38, rfl⟩ := aL_s hf
      replace hf := aL_e hf
      obtain ⟨w39, t40, x41, hh42, i43, ei43, hf⟩ := hf
      refine v_alen dJ21_putVal_26 hh42 ei43.symm ?_
      refine v_istore (i := 8) (lv' := [(0, .ref a0), (1, .int i_1), (2, va_rf r_2), (3, va_rf r_3), (4, .int i_4), (5, .int i_5), (6, va_rf (some a38)), (8, .int i43)]) dJ21_putVal_27 (Nat.le_of_ble_eq_true rfl) rfl rfl ?_
      exact V.weak hf (by omega) (by omega)
def g_J21_putVal_29 (G : Gt) (E : Ev) (h : Hp) (k n : Nat) (a0 : Nat) (i_1 : Int32) (r_2 : Option Nat) (r_3 : Option Nat) (i_4 : Int32) (i_5 : Int32) (r_6 : Option Nat) (i_8 : Int32) (K : Option Nat → Hp → Prop) : Prop :=
aQ h r_6 ((i_8 - (1 : Int32)) &&& i_1) fun r9 =>
((r9 = none → rv h (some a0) 17 (f_J22_newNode G h (some a0) i_1 r_2 r_3 none (fun r16 h15 =>
sQ h15 r_6 ((i_8 - (1 : Int32)) &&& i_1) r16 fun h24 =>
V G E Y_J21_putVal cJ21_putVal 13 (QM G E (kR K) xN) h24 k n 259 [(0, .ref a0), (5, .int i_5)] []))) ∧
(∀ y10, r9 = some y10 → gI h r9 21 0 fun i25 =>
((¬ (i25 = i_1) → V G E Y_J21_putVal cJ21_putVal 13 (QM G E (kR K) xN) h k n 104 [(0, .ref a0), (1, .int i_1), (2, va_rf r_2), (3, va_rf r_3), (4, .int i_4), (5, .int i_5), (6, va_rf r_6), (7, va_rf r9)] []) ∧
(i25 = i_1 → gR h r9 21 1 fun r31 =>
((r31 = r_2 → V G E Y_J21_putVal cJ21_putVal 13 (QM G E (kR K) xN) h k n 222 [(0, .ref a0), (3, va_rf r_3), (4, .int i_4), (5, .int i_5), (10, va_rf r9)] []) ∧
(¬ (r31 = r_2) → ((r_2 = none → V G E Y_J21_putVal cJ21_putVal 13 (QM G E (kR K) xN) h k n 104 [(0, .ref a0), (1, .int i_1), (2, va_rf r_2), (3, va_rf r_3), (4, .int i_4), (5, .int i_5), (6, va_rf r_6), (7, va_rf r9)] []) ∧
(∀ y37, r_2 = some y37 → rv h r_2 6 (f_X6_equals G h r_2 r31 (fun i43 h42 =>
((i43 = 0 → V G E Y_J21_putVal cJ21_putVal 13 (QM G E (kR K) xN) h42 k n 104 [(0, .ref a0), (1, .int i_1), (2, va_rf r_2), (3, va_rf r_3), (4, .int i_4), (5, .int i_5), (6, va_rf r_6), (7, va_rf r9)] []) ∧
(¬ (i43 = 0) → V G E Y_J21_putVal cJ21_putVal 13 (QM G E (kR K) xN) h42 k n 222 [(0, .ref a0), (3, va_rf r_3), (4, .int i_4), (5, .int i_5), (10, va_rf r9)] []))))))))))))
theorem s_J21_putVal_29 {G : Gt} {E : Ev} {h : Hp} {k0 n0 : Nat} {a0 : Nat} {i_1 : Int32} {r_2 : Option Nat} {r_3 : Option Nat} {i_4 : Int32} {i_5 : Int32} {r_6 : Option Nat} {i_8 : Int32} {K : Option Nat → Hp → Prop} (hG : Base G) (hA : 1 ≤ k0) (hB : 6 ≤ n0) (hf : g_J21_putVal_29 G E h (k0 - 1) (n0 - 6) a0 i_1 r_2 r_3 i_4 i_5 r_6 i_8 K) : V G E Y_J21_putVal cJ21_putVal 13 (QM G E (kR K) xN) h k0 n0 29 [(0, .ref a0), (1, .int i_1), (2, va_rf r_2), (3, va_rf r_3), (4, .int i_4), (5, .int i_5), (6, va_rf r_6), (8, .int i_8)] [] := by
  obtain ⟨k, hk9⟩ : ∃ z, z = k0 - 1 := ⟨_, rfl⟩
  obtain ⟨n, hn9⟩ : ∃ z, z = n0 - 6 := ⟨_, rfl⟩
  rw [← hk9, ← hn9] at hf
  refine V.weak (k' := k + 1) (n' := n + 6) ?_ (by omega) (by omega)
  unfold g_J21_putVal_29 at hf
  refine v_qload (r := r_6) (i := 6) dJ21_putVal_29 rfl ?_
  refine v_iload (i := 8) dJ21_putVal_31 rfl ?_
  refine v_iconst (v := 1) dJ21_putVal_33 (by decide) ?_
  refine v_isub dJ21_putVal_34 ?_
  refine v_iload_n (i := 1) dJ21_putVal_35 rfl rfl ?_
  refine v_iand dJ21_putVal_36 ?_
  refine v_dup dJ21_putVal_37 rfl ?_
  refine v_istore (i := 9) (lv' := [(0, .ref a0), (1, .int i_1), (2, va_rf r_2), (3, va_rf r_3), (4, .int i_4), (5, .int i_5), (6, va_rf r_6), (8, .int i_8), (9, .int ((i_8 - (1 : Int32)) &&& i_1))]) dJ21_putVal_38 (Nat.le_of_ble_eq_true rfl) rfl rfl ?_
  obtain ⟨a1, rfl⟩ := aQ_s hf
  replace hf := aQ_e hf
  obtain ⟨w2, t3, N4, f5, hh6, ht7, hi8, r9, er9, hf⟩ := hf
  refine v_aald dJ21_putVal_40 ht7 hh6 hi8 ?_
  rw [← er9]
  refine v_dup dJ21_putVal_41 (rf_cat _) ?_
  refine v_qstore (i := 7) (r := r9) (lv' := [(0, .ref a0), (1, .int i_1), (2, va_rf r_2), (3, va_rf r_3), (4, .int i_4), (5, .int i_5), (6, va_rf (some a1)), (7, va_rf r9), (8, .int i_8), (9, .int ((i_8 - (1 : Int32)) &&& i_1))]) dJ21_putVal_42 (Nat.le_of_ble_eq_true rfl) rfl rfl ?_
  refine v_ifnonnull 63 dJ21_putVal_44 (by decide) (fun y10 e11 => ?_) (fun e11 => ?_)
  · replace hf := hf.2 y10 e11
    subst e11
    refine v_qload (r := (some y10)) (i := 7) dJ21_putVal_63 rfl ?_
    replace hf := gI_e hf
    obtain ⟨w26, fs27, i25, hh28, hk29, hf⟩ := hf
    refine v_getf (T := TJ31) (ci := 21) 0 dJ21_putVal_65 q1119 rfl in_J31 (Nat.le_of_ble_eq_true rfl) (Or.inl rfl) hh28 hk29 ?_
    refine v_iload_n (i := 1) dJ21_putVal_68 rfl rfl ?_
    refine v_icmp_ne 104 dJ21_putVal_69 (by decide) (fun c30 => ?_) (fun c30 => ?_)
    · replace hf := hf.1 c30
      refine V.lp (lv' := [(0, .ref a0), (1, .int i_1), (2, va_rf r_2), (3, va_rf r_3), (4, .int i_4), (5, .int i_5), (6, va_rf (some a1)), (7, va_rf (some y10))]) [0, 1, 2, 3, 4, 5, 6, 7] rfl ?_
      exact V.weak hf (by omega) (by omega)
    · replace hf := hf.2 c30
      refine v_qload (r := (some y10)) (i := 7) dJ21_putVal_72 rfl ?_
      replace hf := gR_e hf
      obtain ⟨w32, fs33, r31, hh34, hk35, hf⟩ := hf
      refine v_getf (T := TJ31) (ci := 21) 1 dJ21_putVal_74 q1126 rfl in_J31 (Nat.le_of_ble_eq_true rfl) (Or.inl rfl) hh34 hk35 ?_
      refine v_dup dJ21_putVal_77 (rf_cat _) ?_
      refine v_qstore (i := 11) (r := r31) (lv' := [(0, .ref a0), (1, .int i_1), (2, va_rf r_2), (3, va_rf r_3), (4, .int i_4), (5, .int i_5), (6, va_rf (some a1)), (7, va_rf (some y10)), (8, .int i_8), (9, .int ((i_8 - (1 : Int32)) &&& i_1)), (11, va_rf r31)]) dJ21_putVal_78 (Nat.le_of_ble_eq_true rfl) rfl rfl ?_
      refine v_qload_n (r := r_2) (i := 2) dJ21_putVal_80 rfl rfl ?_
      refine v_acmp_eq (x := r31) (y := r_2) 97 dJ21_putVal_81 (by decide) (fun c36 => ?_) (fun c36 => ?_)
      · replace hf := hf.1 c36
        refine v_qload (r := (some y10)) (i := 7) dJ21_putVal_97 rfl ?_
        refine v_qstore (i := 10) (r := (some y10)) (lv' := [(0, .ref a0), (1, .int i_1), (2, va_rf r_2), (3, va_rf r_3), (4, .int i_4), (5, .int i_5), (6, va_rf (some a1)), (7, va_rf (some y10)), (8, .int i_8), (9, .int ((i_8 - (1 : Int32)) &&& i_1)), (10, va_rf (some y10)), (11, va_rf r31)]) dJ21_putVal_99 (Nat.le_of_ble_eq_true rfl) rfl rfl ?_
        refine v_goto 222 dJ21_putVal_101 (by decide) ?_
        refine V.lp (lv' := [(0, .ref a0), (3, va_rf r_3), (4, .int i_4), (5, .int i_5), (10, va_rf (some y10))]) [0, 3, 4, 5, 10] rfl ?_
        exact V.weak hf (by omega) (by omega)
      · replace hf := hf.2 c36
        refine v_qload_n (r := r_2) (i := 2) dJ21_putVal_84 rfl rfl ?_
        refine v_ifnull 104 dJ21_putVal_85 (by decide) (fun e38 => ?_) (fun y37 e38 => ?_)
        · replace hf := hf.1 e38
          subst e38
          refine V.lp (lv' := [(0, .ref a0), (1, .int i_1), (2, va_rf none), (3, va_rf r_3), (4, .int i_4), (5, .int i_5), (6, va_rf (some a1)), (7, va_rf (some y10))]) [0, 1, 2, 3, 4, 5, 6, 7] rfl ?_
          exact V.weak hf (by omega) (by omega)
        · replace hf := hf.2 y37 e38
          subst e38
          refine v_qload_n (r := (some y37)) (i := 2) dJ21_putVal_88 rfl rfl ?_
          refine v_qload (r := r31) (i := 11) dJ21_putVal_89 rfl ?_
          replace hf := rv_e hf
          obtain ⟨w39, fs40, hh41, hf⟩ := hf
          refine V.addK0 ?_
          refine V.addN0 ?_
          refine v_callA (mc := 0) (ms := 0) 1 dJ21_putVal_91 (m_X6_equals hG hf) rfl hh41 rfl (lw_U q1404 q1406 q1414 q1415 q123 q1416) q1403 rfl (by decide +kernel) (by decide) rfl (cat_len (Nat.le_of_ble_eq_true rfl)) (kk_I fun i43 h42 hg => ?_) (fun _ _ _ hx => hx.elim)
          replace hf := hg
          clear hg
          refine v_if_eq 104 dJ21_putVal_94 (by decide) (fun c44 => ?_) (fun c44 => ?_)
          · replace hf := hf.1 c44
            refine V.lp (lv' := [(0, .ref a0), (1, .int i_1), (2, va_rf (some y37)), (3, va_rf r_3), (4, .int i_4), (5, .int i_5), (6, va_rf (some a1)), (7, va_rf (some y10))]) [0, 1, 2, 3, 4, 5, 6, 7] rfl ?_
            exact V.weak hf (by omega) (by omega)
          · replace hf := hf.2 c44
            refine v_qload (r := (some y10)) (i := 7) dJ21_putVal_97 rfl ?_
            refine v_qstore (i := 10) (r := (some y10)) (lv' := [(0, .ref a0), (1, .int i_1), (2, va_rf (some y37)), (3, va_rf r_3), (4, .int i_4), (5, .int i_5), (6, va_rf (some a1)), (7, va_rf (some y10)), (8, .int i_8), (9, .int ((i_8 - (1 : Int32)) &&& i_1)), (10, va_rf (some y10)), (11, va_rf r31)]) dJ21_putVal_99 (Nat.le_of_ble_eq_true rfl) rfl rfl ?_
            refine v_goto 222 dJ21_putVal_101 (by decide) ?_
            refine V.lp (lv' := [(0, .ref a0), (3, va_rf r_3), (4, .int i_4), (5, .int i_5), (10, va_rf (some y10))]) [0, 3, 4, 5, 10] rfl ?_
            exact V.weak hf (by omega) (by omega)
  · replace hf := hf.1 e11
    subst e11
    refine v_qload (r := (some a1)) (i := 6) dJ21_putVal_47 rfl ?_
    refine v_iload (i := 9) dJ21_putVal_49 rfl ?_
    refine v_aload_n (i := 0) dJ21_putVal_51 rfl rfl ?_
    refine v_iload_n (i := 1) dJ21_putVal_52 rfl rfl ?_
    refine v_qload_n (r := r_2) (i := 2) dJ21_putVal_53 rfl rfl ?_
    refine v_qload_n (r := r_3) (i := 3) dJ21_putVal_54 rfl rfl ?_
    refine v_null dJ21_putVal_55 ?_
    replace hf := rv_e hf
    obtain ⟨w12, fs13, hh14, hf⟩ := hf
    refine v_callA (mc := 1) (ms := 6) 4 dJ21_putVal_56 (m_J22_newNode hG hf) rfl hh14 rfl (lw_U q1392 q1394 q1395 q1396 q117 q1397) q1402 rfl (by decide +kernel) (by decide) rfl (cat_len (Nat.le_of_ble_eq_true rfl)) (kk_R fun r16 h15 hg => ?_) (fun _ _ _ hx => hx.elim)
    replace hf := hg
    clear hg
    replace hf := sQ_e hf
    obtain ⟨t17, N18, f19, hh20, hD22, hi21, hy23, hf⟩ := hf
    refine v_sQ (y := r16) dJ21_putVal_59 hD22 hh20 hi21 hy23 ?_
    obtain ⟨h24, eh24⟩ : ∃ z, z = hs h15 a1 (true, .inl (t17, N18, .inr (.inr (.inr (.inr (va_up f19 ((i_8 - (1 : Int32)) &&& i_1).toNatClampNeg r16)))))) := ⟨_, rfl⟩
    try rw [← eh24] at hf
    rw [← eh24]
    refine v_goto 259 dJ21_putVal_60 (by decide) ?_
    refine V.lp (lv' := [(0, .ref a0), (5, .int i_5)]) [0, 5] rfl ?_
    exact V.weak hf (by omega) (by omega)
def g_J21_putVal_104 (G : Gt) (E : Ev) (h : Hp) (k n : Nat) (a0 : Nat) (i_1 : Int32) (r_2 : Option Nat) (r_3 : Option Nat) (i_4 : Int32) (i_5 : Int32) (r_6 : Option Nat) (r_7 : Option Nat) (K : Option Nat → Hp → Prop) : Prop :=
rv h r_7 21 ((((0 : Int32) = 0 → V G E Y_J21_putVal cJ21_putVal 13 (QM G E (kR K) xN) h k n 134 [(0, .ref a0), (1, .int i_1), (2, va_rf r_2), (3, va_rf r_3), (4, .int i_4), (5, .int i_5), (6, va_rf r_6), (7, va_rf r_7), (12, .int (0 : Int32))] []) ∧
(¬ ((0 : Int32) = 0) → False)))
theorem s_J21_putVal_104 {G : Gt} {E : Ev} {h : Hp} {k0 n0 : Nat} {a0 : Nat} {i_1 : Int32} {r_2 : Option Nat} {r_3 : Option Nat} {i_4 : Int32} {i_5 : Int32} {r_6 : Option Nat} {r_7 : Option Nat} {K : Option Nat → Hp → Prop} (hG : Base G) (hA : 0 ≤ k0) (hB : 0 ≤ n0) (hf : g_J21_putVal_104 G E h (k0 - 0) (n0 - 0) a0 i_1 r_2 r_3 i_4 i_5 r_6 r_7 K) : V G E Y_J21_putVal cJ21_putVal 13 (QM G E (kR K) xN) h k0 n0 104 [(0, .ref a0), (1, .int i_1), (2, va_rf r_2), (3, va_rf r_3), (4, .int i_4), (5, .int i_5), (6, va_rf r_6), (7, va_rf r_7)] [] := by
  obtain ⟨k, hk9⟩ : ∃ z, z = k0 - 0 := ⟨_, rfl⟩
  obtain ⟨n, hn9⟩ : ∃ z, z = n0 - 0 := ⟨_, rfl⟩
  rw [← hk9, ← hn9] at hf
  refine V.weak (k' := k + 0) (n' := n + 0) ?_ (by omega) (by omega)
  unfold g_J21_putVal_104 at hf
  refine v_qload (r := r_7) (i := 7) dJ21_putVal_104 rfl ?_
  obtain ⟨a1, rfl⟩ := rv_s hf
  replace hf := rv_e hf
  obtain ⟨w2, fs3, hh4, hf⟩ := hf
  refine v_instNo dJ21_putVal_106 q1085 hh4 rfl (by decide) ?_
  refine v_if_eq 131 dJ21_putVal_109 (by decide) (fun c5 => ?_) (fun c5 => ?_)
  · replace hf := hf.1 c5
    refine v_iconst (v := 0) dJ21_putVal_131 (by decide) ?_
    refine v_istore (i := 12) (lv' := [(0, .ref a0), (1, .int i_1), (2, va_rf r_2), (3, va_rf r_3), (4, .int i_4), (5, .int i_5), (6, va_rf r_6), (7, va_rf (some a1)), (12, .int (0 : Int32))]) dJ21_putVal_132 (Nat.le_of_ble_eq_true rfl) rfl rfl ?_
    exact V.weak hf (by omega) (by omega)
  · replace hf := hf.2 c5
    refine v_qload (r := (some a1)) (i := 7) dJ21_putVal_112 rfl ?_
    exact hf.elim
def g_J21_putVal_134 (G : Gt) (E : Ev) (h : Hp) (k n : Nat) (a0 : Nat) (i_1 : Int32) (r_2 : Option Nat) (r_3 : Option Nat) (i_4 : Int32) (i_5 : Int32) (r_6 : Option Nat) (r_7 : Option Nat) (i_12 : Int32) (K : Option Nat → Hp → Prop) : Prop :=
gR h r_7 21 3 fun r1 =>
((r1 = none → rv h (some a0) 17 (f_J22_newNode G h (some a0) i_1 r_2 r_3 none (fun r13 h12 =>
pF h12 r_7 21 3 (va_rf r13) fun h16 =>
((i_12 < (7 : Int32) → V G E Y_J21_putVal cJ21_putVal 13 (QM G E (kR K) xN) h16 k n 222 [(0, .ref a0), (3, va_rf r_3), (4, .int i_4), (5, .int i_5), (10, va_rf r1)] []) ∧
(¬ (i_12 < (7 : Int32)) → False))))) ∧
(∀ y7, r1 = some y7 → gI h r1 21 0 fun i18 =>
((¬ (i18 = i_1) → V G E Y_J21_putVal cJ21_putVal 13 (QM G E (kR K) xN) h k n 134 [(0, .ref a0), (1, .int i_1), (2, va_rf r_2), (3, va_rf r_3), (4, .int i_4), (5, .int i_5), (6, va_rf r_6), (7, va_rf r1), (12, .int (i_12 + (1 : Int32)))] []) ∧
(i18 = i_1 → gR h r1 21 1 fun r24 =>
((r24 = r_2 → V G E Y_J21_putVal cJ21_putVal 13 (QM G E (kR K) xN) h k n 222 [(0, .ref a0), (3, va_rf r_3), (4, .int i_4), (5, .int i_5), (10, va_rf r1)] []) ∧
(¬ (r24 = r_2) → ((r_2 = none → V G E Y_J21_putVal cJ21_putVal 13 (QM G E (kR K) xN) h k n 134 [(0, .ref a0), (1, .int i_1), (2, va_rf r_2), (3, va_rf r_3), (4, .int i_4), (5, .int i_5), (6, va_rf r_6), (7, va_rf r1), (12, .int (i_12 + (1 : Int32)))] []) ∧
(∀ y30, r_2 = some y30 → rv h r_2 6 (f_X6_equals G h r_2 r24 (fun i36 h35 =>
((i36 = 0 → V G E Y_J21_putVal cJ21_putVal 13 (QM G E (kR K) xN) h35 k n 134 [(0, .ref a0), (1, .int i_1), (2, va_rf r_2), (3, va_rf r_3), (4, .int i_4), (5, .int i_5), (6, va_rf r_6), (7, va_rf r1), (12, .int (i_12 + (1 : Int32)))] []) ∧
(¬ (i36 = 0) → V G E Y_J21_putVal cJ21_putVal 13 (QM G E (kR K) xN) h35 k n 222 [(0, .ref a0), (3, va_rf r_3), (4, .int i_4), (5, .int i_5), (10, va_rf r1)] []))))))))))))
theorem s_J21_putVal_134 {G : Gt} {E : Ev} {h : Hp} {k0 n0 : Nat} {a0 : Nat} {i_1 : Int32} {r_2 : Option Nat} {r_3 : Option Nat} {i_4 : Int32} {i_5 : Int32} {r_6 : Option Nat} {r_7 : Option Nat} {i_12 : Int32} {K : Option Nat → Hp → Prop} (hG : Base G) (hA : 1 ≤ k0) (hB : 6 ≤ n0) (hf : g_J21_putVal_134 G E h (k0 - 1) (n0 - 6) a0 i_1 r_2 r_3 i_4 i_5 r_6 r_7 i_12 K) : V G E Y_J21_putVal cJ21_putVal 13 (QM G E (kR K) xN) h k0 n0 134 [(0, .ref a0), (1, .int i_1), (2, va_rf r_2), (3, va_rf r_3), (4, .int i_4), (5, .int i_5), (6, va_rf r_6), (7, va_rf r_7), (12, .int i_12)] [] := by
  obtain ⟨k, hk9⟩ : ∃ z, z = k0 - 1 := ⟨_, rfl⟩
  obtain ⟨n, hn9⟩ : ∃ z, z = n0 - 6 := ⟨_, rfl⟩
  rw [← hk9, ← hn9] at hf
  refine V.weak (k' := k + 1) (n' := n + 6) ?_ (by omega) (by omega)
  unfold g_J21_putVal_134 at hf
  refine v_qload (r := r_7) (i := 7) dJ21_putVal_134 rfl ?_
  obtain ⟨a2, rfl⟩ := gR_s hf
  replace hf := gR_e hf
  obtain ⟨w3, fs4, r1, hh5, hk6, hf⟩ := hf
  refine v_getf (T := TJ31) (ci := 21) 3 dJ21_putVal_136 q1137 rfl in_J31 (Nat.le_of_ble_eq_true rfl) (Or.inl rfl) hh5 hk6 ?_
  refine v_dup dJ21_putVal_139 (rf_cat _) ?_
  refine v_qstore (i := 10) (r := r1) (lv' := [(0, .ref a0), (1, .int i_1), (2, va_rf r_2), (3, va_rf r_3), (4, .int i_4), (5, .int i_5), (6, va_rf r_6), (7, va_rf (some a2)), (10, va_rf r1), (12, .int i_12)]) dJ21_putVal_140 (Nat.le_of_ble_eq_true rfl) rfl rfl ?_
  refine v_ifnonnull 175 dJ21_putVal_142 (by decide) (fun y7 e8 => ?_) (fun e8 => ?_)
  · replace hf := hf.2 y7 e8
    subst e8
    refine v_qload (r := (some y7)) (i := 10) dJ21_putVal_175 rfl ?_
    replace hf := gI_e hf
    obtain ⟨w19, fs20, i18, hh21, hk22, hf⟩ := hf
    refine v_getf (T := TJ31) (ci := 21) 0 dJ21_putVal_177 q1119 rfl in_J31 (Nat.le_of_ble_eq_true rfl) (Or.inl rfl) hh21 hk22 ?_
    refine v_iload_n (i := 1) dJ21_putVal_180 rfl rfl ?_
    refine v_icmp_ne 212 dJ21_putVal_181 (by decide) (fun c23 => ?_) (fun c23 => ?_)
    · replace hf := hf.1 c23
      refine v_qload (r := (some y7)) (i := 10) dJ21_putVal_212 rfl ?_
      refine v_qstore (i := 7) (r := (some y7)) (lv' := [(0, .ref a0), (1, .int i_1), (2, va_rf r_2), (3, va_rf r_3), (4, .int i_4), (5, .int i_5), (6, va_rf r_6), (7, va_rf (some y7)), (10, va_rf (some y7)), (12, .int i_12)]) dJ21_putVal_214 (Nat.le_of_ble_eq_true rfl) rfl rfl ?_
      refine v_iinc (i := 12) (v := i_12 + (1 : Int32)) (lv' := [(0, .ref a0), (1, .int i_1), (2, va_rf r_2), (3, va_rf r_3), (4, .int i_4), (5, .int i_5), (6, va_rf r_6), (7, va_rf (some y7)), (10, va_rf (some y7)), (12, .int (i_12 + (1 : Int32)))]) dJ21_putVal_216 rfl rfl (Nat.le_of_ble_eq_true rfl) rfl rfl ?_
      refine v_goto 134 dJ21_putVal_219 (by decide) ?_
      refine V.lp (lv' := [(0, .ref a0), (1, .int i_1), (2, va_rf r_2), (3, va_rf r_3), (4, .int i_4), (5, .int i_5), (6, va_rf r_6), (7, va_rf (some y7)), (12, .int (i_12 + (1 : Int32)))]) [0, 1, 2, 3, 4, 5, 6, 7, 9] rfl ?_
      exact V.weak hf (by omega) (by omega)
    · replace hf := hf.2 c23
      refine v_qload (r := (some y7)) (i := 10) dJ21_putVal_184 rfl ?_
      replace hf := gR_e hf
      obtain ⟨w25, fs26, r24, hh27, hk28, hf⟩ := hf
      refine v_getf (T := TJ31) (ci := 21) 1 dJ21_putVal_186 q1126 rfl in_J31 (Nat.le_of_ble_eq_true rfl) (Or.inl rfl) hh27 hk28 ?_
      refine v_dup dJ21_putVal_189 (rf_cat _) ?_
      refine v_qstore (i := 11) (r := r24) (lv' := [(0, .ref a0), (1, .int i_1), (2, va_rf r_2), (3, va_rf r_3), (4, .int i_4), (5, .int i_5), (6, va_rf r_6), (7, va_rf (some a2)), (10, va_rf (some y7)), (11, va_rf r24), (12, .int i_12)]) dJ21_putVal_190 (Nat.le_of_ble_eq_true rfl) rfl rfl ?_
      refine v_qload_n (r := r_2) (i := 2) dJ21_putVal_192 rfl rfl ?_
      refine v_acmp_eq (x := r24) (y := r_2) 222 dJ21_putVal_193 (by decide) (fun c29 => ?_) (fun c29 => ?_)
      · replace hf := hf.1 c29
        refine V.lp (lv' := [(0, .ref a0), (3, va_rf r_3), (4, .int i_4), (5, .int i_5), (10, va_rf (some y7))]) [0, 3, 4, 5, 8] rfl ?_
        exact V.weak hf (by omega) (by omega)
      · replace hf := hf.2 c29
        refine v_qload_n (r := r_2) (i := 2) dJ21_putVal_196 rfl rfl ?_
        refine v_ifnull 212 dJ21_putVal_197 (by decide) (fun e31 => ?_) (fun y30 e31 => ?_)
        · replace hf := hf.1 e31
          subst e31
          refine v_qload (r := (some y7)) (i := 10) dJ21_putVal_212 rfl ?_
          refine v_qstore (i := 7) (r := (some y7)) (lv' := [(0, .ref a0), (1, .int i_1), (2, va_rf none), (3, va_rf r_3), (4, .int i_4), (5, .int i_5), (6, va_rf r_6), (7, va_rf (some y7)), (10, va_rf (some y7)), (11, va_rf r24), (12, .int i_12)]) dJ21_putVal_214 (Nat.le_of_ble_eq_true rfl) rfl rfl ?_
          refine v_iinc (i := 12) (v := i_12 + (1 : Int32)) (lv' := [(0, .ref a0), (1, .int i_1), (2, va_rf none), (3, va_rf r_3), (4, .int i_4), (5, .int i_5), (6, va_rf r_6), (7, va_rf (some y7)), (10, va_rf (some y7)), (11, va_rf r24), (12, .int (i_12 + (1 : Int32)))]) dJ21_putVal_216 rfl rfl (Nat.le_of_ble_eq_true rfl) rfl rfl ?_
          refine v_goto 134 dJ21_putVal_219 (by decide) ?_
          refine V.lp (lv' := [(0, .ref a0), (1, .int i_1), (2, va_rf none), (3, va_rf r_3), (4, .int i_4), (5, .int i_5), (6, va_rf r_6), (7, va_rf (some y7)), (12, .int (i_12 + (1 : Int32)))]) [0, 1, 2, 3, 4, 5, 6, 7, 10] rfl ?_
          exact V.weak hf (by omega) (by omega)
        · replace hf := hf.2 y30 e31
          subst e31
          refine v_qload_n (r := (some y30)) (i := 2) dJ21_putVal_200 rfl rfl ?_
          refine v_qload (r := r24) (i := 11) dJ21_putVal_201 rfl ?_
          replace hf := rv_e hf
          obtain ⟨w32, fs33, hh34, hf⟩ := hf
          refine V.addK0 ?_
          refine V.addN0 ?_
          refine v_callA (mc := 0) (ms := 0) 1 dJ21_putVal_203 (m_X6_equals hG hf) rfl hh34 rfl (lw_U q1404 q1406 q1414 q1415 q123 q1416) q1403 rfl (by decide +kernel) (by decide) rfl (cat_len (Nat.le_of_ble_eq_true rfl)) (kk_I fun i36 h35 hg => ?_) (fun _ _ _ hx => hx.elim)
          replace hf := hg
          clear hg
          refine v_if_eq 212 dJ21_putVal_206 (by decide) (fun c37 => ?_) (fun c37 => ?_)
          · replace hf := hf.1 c37
            refine v_qload (r := (some y7)) (i := 10) dJ21_putVal_212 rfl ?_
            refine v_qstore (i := 7) (r := (some y7)) (lv' := [(0, .ref a0), (1, .int i_1), (2, va_rf (some y30)), (3, va_rf r_3), (4, .int i_4), (5, .int i_5), (6, va_rf r_6), (7, va_rf (some y7)), (10, va_rf (some y7)), (11, va_rf r24), (12, .int i_12)]) dJ21_putVal_214 (Nat.le_of_ble_eq_true rfl) rfl rfl ?_
            refine v_iinc (i := 12) (v := i_12 + (1 : Int32)) (lv' := [(0, .ref a0), (1, .int i_1), (2, va_rf (some y30)), (3, va_rf r_3), (4, .int i_4), (5, .int i_5), (6, va_rf r_6), (7, va_rf (some y7)), (10, va_rf (some y7)), (11, va_rf r24), (12, .int (i_12 + (1 : Int32)))]) dJ21_putVal_216 rfl rfl (Nat.le_of_ble_eq_true rfl) rfl rfl ?_
            refine v_goto 134 dJ21_putVal_219 (by decide) ?_
            refine V.lp (lv' := [(0, .ref a0), (1, .int i_1), (2, va_rf (some y30)), (3, va_rf r_3), (4, .int i_4), (5, .int i_5), (6, va_rf r_6), (7, va_rf (some y7)), (12, .int (i_12 + (1 : Int32)))]) [0, 1, 2, 3, 4, 5, 6, 7, 10] rfl ?_
            exact V.weak hf (by omega) (by omega)
          · replace hf := hf.2 c37
            refine v_goto 222 dJ21_putVal_209 (by decide) ?_
            refine V.lp (lv' := [(0, .ref a0), (3, va_rf r_3), (4, .int i_4), (5, .int i_5), (10, va_rf (some y7))]) [0, 3, 4, 5, 8] rfl ?_
            exact V.weak hf (by omega) (by omega)
  · replace hf := hf.1 e8
    subst e8
    refine v_qload (r := (some a2)) (i := 7) dJ21_putVal_145 rfl ?_
    refine v_aload_n (i := 0) dJ21_putVal_147 rfl rfl ?_
    refine v_iload_n (i := 1) dJ21_putVal_148 rfl rfl ?_
    refine v_qload_n (r := r_2) (i := 2) dJ21_putVal_149 rfl rfl ?_
    refine v_qload_n (r := r_3) (i := 3) dJ21_putVal_150 rfl rfl ?_
    refine v_null dJ21_putVal_151 ?_
    replace hf := rv_e hf
    obtain ⟨w9, fs10, hh11, hf⟩ := hf
    refine v_callA (mc := 1) (ms := 6) 4 dJ21_putVal_152 (m_J22_newNode hG hf) rfl hh11 rfl (lw_U q1392 q1394 q1395 q1396 q117 q1397) q1402 rfl (by decide +kernel) (by decide) rfl (cat_len (Nat.le_of_ble_eq_true rfl)) (kk_R fun r13 h12 hg => ?_) (fun _ _ _ hx => hx.elim)
    replace hf := hg
    clear hg
    replace hf := pF_e hf
    obtain ⟨fs14, hh15, hf⟩ := hf
    refine v_putf (v := va_rf r13) (T := TJ31) (ci := 21) (ty := .object "java/util/HashMap$Node") 3 dJ21_putVal_155 q1137 rfl in_J31 tyJ31 tyJ31_ok nmJ31 (Nat.le_of_ble_eq_true rfl) (Or.inl rfl) rfl (by decide +kernel) (rf_nar _ _) (rf_fit _ _) hh15 ?_
    obtain ⟨h16, eh16⟩ : ∃ z, z = hs h12 a2 (true, .inr (21, fs14.set 3 (va_rf r13))) := ⟨_, rfl⟩
    try rw [← eh16] at hf
    rw [← eh16]
    refine v_iload (i := 12) dJ21_putVal_158 rfl ?_
    refine v_bipush (v := 7) dJ21_putVal_160 (by decide) ?_
    refine v_icmp_lt 222 dJ21_putVal_162 (by decide) (fun c17 => ?_) (fun c17 => ?_)
    · replace hf := hf.1 c17
      refine V.lp (lv' := [(0, .ref a0), (3, va_rf r_3), (4, .int i_4), (5, .int i_5), (10, va_rf none)]) [0, 3, 4, 5, 8] rfl ?_
      exact V.weak hf (by omega) (by omega)
    · replace hf := hf.2 c17
      refine v_aload_n (i := 0) dJ21_putVal_165 rfl rfl ?_
      refine v_qload (r := r_6) (i := 6) dJ21_putVal_166 rfl ?_
      refine v_iload_n (i := 1) dJ21_putVal_168 rfl rfl ?_
      exact hf.elim
def g_J21_putVal_222 (G : Gt) (E : Ev) (h : Hp) (k n : Nat) (a0 : Nat) (r_3 : Option Nat) (i_4 : Int32) (i_5 : Int32) (r_10 : Option Nat) (K : Option Nat → Hp → Prop) : Prop :=
((r_10 = none → V G E Y_J21_putVal cJ21_putVal 13 (QM G E (kR K) xN) h k n 259 [(0, .ref a0), (5, .int i_5)] []) ∧
(∀ y1, r_10 = some y1 → gR h r_10 21 2 fun r3 =>
((i_4 = 0 → pF h r_10 21 2 (va_rf r_3) fun h11 =>
rv h11 (some a0) 17 (f_J22_afterNodeAccess G h11 (some a0) r_10 (fun h15 =>
K r3 h15))) ∧
(¬ (i_4 = 0) → ((r3 = none → pF h r_10 21 2 (va_rf r_3) fun h20 =>
rv h20 (some a0) 17 (f_J22_afterNodeAccess G h20 (some a0) r_10 (fun h24 =>
K r3 h24))) ∧
(∀ y16, r3 = some y16 → rv h (some a0) 17 (f_J22_afterNodeAccess G h (some a0) r_10 (fun h28 =>
K r3 h28))))))))
theorem s_J21_putVal_222 {G : Gt} {E : Ev} {h : Hp} {k0 n0 : Nat} {a0 : Nat} {r_3 : Option Nat} {i_4 : Int32} {i_5 : Int32} {r_10 : Option Nat} {K : Option Nat → Hp → Prop} (hG : Base G) (hA : 0 ≤ k0) (hB : 0 ≤ n0) (hf : g_J21_putVal_222 G E h (k0 - 0) (n0 - 0) a0 r_3 i_4 i_5 r_10 K) : V G E Y_J21_putVal cJ21_putVal 13 (QM G E (kR K) xN) h k0 n0 222 [(0, .ref a0), (3, va_rf r_3), (4, .int i_4), (5, .int i_5), (10, va_rf r_10)] [] := by
  obtain ⟨k, hk9⟩ : ∃ z, z = k0 - 0 := ⟨_, rfl⟩
  obtain ⟨n, hn9⟩ : ∃ z, z = n0 - 0 := ⟨_, rfl⟩
  rw [← hk9, ← hn9] at hf
  refine V.weak (k' := k + 0) (n' := n + 0) ?_ (by omega) (by omega)
  unfold g_J21_putVal_222 at hf
  refine v_qload (r := r_10) (i := 10) dJ21_putVal_222 rfl ?_
  refine v_ifnull 259 dJ21_putVal_224 (by decide) (fun e2 => ?_) (fun y1 e2 => ?_)
  · replace hf := hf.1 e2
    subst e2
    refine V.lp (lv' := [(0, .ref a0), (5, .int i_5)]) [0, 3] rfl ?_
    exact V.weak hf (by omega) (by omega)
  · replace hf := hf.2 y1 e2
    subst e2
    refine v_qload (r := (some y1)) (i := 10) dJ21_putVal_227 rfl ?_
    replace hf := gR_e hf
    obtain ⟨w4, fs5, r3, hh6, hk7, hf⟩ := hf
    refine v_getf (T := TJ31) (ci := 21) 2 dJ21_putVal_229 q1130 rfl in_J31 (Nat.le_of_ble_eq_true rfl) (Or.inl rfl) hh6 hk7 ?_
    refine v_qstore (i := 12) (r := r3) (lv' := [(0, .ref a0), (3, va_rf r_3), (4, .int i_4), (5, .int i_5), (10, va_rf (some y1)), (12, va_rf r3)]) dJ21_putVal_232 (Nat.le_of_ble_eq_true rfl) rfl rfl ?_
    refine v_iload (i := 4) dJ21_putVal_234 rfl ?_
    refine v_if_eq 244 dJ21_putVal_236 (by decide) (fun c8 => ?_) (fun c8 => ?_)
    · replace hf := hf.1 c8
      refine v_qload (r := (some y1)) (i := 10) dJ21_putVal_244 rfl ?_
      refine v_qload_n (r := r_3) (i := 3) dJ21_putVal_246 rfl rfl ?_
      replace hf := pF_e hf
      obtain ⟨fs9, hh10, hf⟩ := hf
      refine v_putf (v := va_rf r_3) (T := TJ31) (ci := 21) (ty := .object "java/lang/Object") 2 dJ21_putVal_247 q1130 rfl in_J31 tyJ31 tyJ31_ok nmJ31 (Nat.le_of_ble_eq_true rfl) (Or.inl rfl) rfl (by decide +kernel) (rf_nar _ _) (rf_fit _ _) hh10 ?_
      obtain ⟨h11, eh11⟩ : ∃ z, z = hs h y1 (true, .inr (21, fs9.set 2 (va_rf r_3))) := ⟨_, rfl⟩
      try rw [← eh11] at hf
      rw [← eh11]
      refine v_aload_n (i := 0) dJ21_putVal_250 rfl rfl ?_
      refine v_qload (r := (some y1)) (i := 10) dJ21_putVal_251 rfl ?_
      replace hf := rv_e hf
      obtain ⟨w12, fs13, hh14, hf⟩ := hf
      refine V.addK0 ?_
      refine V.addN0 ?_
      refine v_callA (mc := 0) (ms := 0) 1 dJ21_putVal_253 (m_J22_afterNodeAccess hG hf) rfl hh14 rfl (lw_U q1499 q1501 q1502 q1503 q117 q1504) q1505 rfl (by decide +kernel) (by decide) rfl (cat_len (Nat.le_of_ble_eq_true rfl)) (kk_V fun h15 hg => ?_) (fun _ _ _ hx => hx.elim)
      replace hf := hg
      clear hg
      refine v_qload (r := r3) (i := 12) dJ21_putVal_256 rfl ?_
      exact v_qret (r := r3) dJ21_putVal_258 rfl (Or.inl ⟨_, rfl⟩) ⟨_, rfl, hf⟩
    · replace hf := hf.2 c8
      refine v_qload (r := r3) (i := 12) dJ21_putVal_239 rfl ?_
      refine v_ifnonnull 250 dJ21_putVal_241 (by decide) (fun y16 e17 => ?_) (fun e17 => ?_)
      · replace hf := hf.2 y16 e17
        subst e17
        refine v_aload_n (i := 0) dJ21_putVal_250 rfl rfl ?_
        refine v_qload (r := (some y1)) (i := 10) dJ21_putVal_251 rfl ?_
        replace hf := rv_e hf
        obtain ⟨w25, fs26, hh27, hf⟩ := hf
        refine V.addK0 ?_
        refine V.addN0 ?_
        refine v_callA (mc := 0) (ms := 0) 1 dJ21_putVal_253 (m_J22_afterNodeAccess hG hf) rfl hh27 rfl (lw_U q1499 q1501 q1502 q1503 q117 q1504) q1505 rfl (by decide +kernel) (by decide) rfl (cat_len (Nat.le_of_ble_eq_true rfl)) (kk_V fun h28 hg => ?_) (fun _ _ _ hx => hx.elim)
        replace hf := hg
        clear hg
        refine v_qload (r := (some y16)) (i := 12) dJ21_putVal_256 rfl ?_
        exact v_qret (r := (some y16)) dJ21_putVal_258 rfl (Or.inl ⟨_, rfl⟩) ⟨_, rfl, hf⟩
      · replace hf := hf.1 e17
        subst e17
        refine v_qload (r := (some y1)) (i := 10) dJ21_putVal_244 rfl ?_
        refine v_qload_n (r := r_3) (i := 3) dJ21_putVal_246 rfl rfl ?_
        replace hf := pF_e hf
        obtain ⟨fs18, hh19, hf⟩ := hf
        refine v_putf (v := va_rf r_3) (T := TJ31) (ci := 21) (ty := .object "java/lang/Object") 2 dJ21_putVal_247 q1130 rfl in_J31 tyJ31 tyJ31_ok nmJ31 (Nat.le_of_ble_eq_true rfl) (Or.inl rfl) rfl (by decide +kernel) (rf_nar _ _) (rf_fit _ _) hh19 ?_
        obtain ⟨h20, eh20⟩ : ∃ z, z = hs h y1 (true, .inr (21, fs18.set 2 (va_rf r_3))) := ⟨_, rfl⟩
        try rw [← eh20] at hf
        rw [← eh20]
        refine v_aload_n (i := 0) dJ21_putVal_250 rfl rfl ?_
        refine v_qload (r := (some y1)) (i := 10) dJ21_putVal_251 rfl ?_
        replace hf := rv_e hf
        obtain ⟨w21, fs22, hh23, hf⟩ := hf
        refine V.addK0 ?_
        refine V.addN0 ?_
        refine v_callA (mc := 0) (ms := 0) 1 dJ21_putVal_253 (m_J22_afterNodeAccess hG hf) rfl hh23 rfl (lw_U q1499 q1501 q1502 q1503 q117 q1504) q1505 rfl (by decide +kernel) (by decide) rfl (cat_len (Nat.le_of_ble_eq_true rfl)) (kk_V fun h24 hg => ?_) (fun _ _ _ hx => hx.elim)
        replace hf := hg
        clear hg
        refine v_qload (r := none) (i := 12) dJ21_putVal_256 rfl ?_
        exact v_qret (r := none) dJ21_putVal_258 rfl (Or.inl ⟨_, rfl⟩) ⟨_, rfl, hf⟩
def g_J21_putVal_259 (G : Gt) (E : Ev) (h : Hp) (k n : Nat) (a0 : Nat) (i_5 : Int32) (K : Option Nat → Hp → Prop) : Prop :=
gI h (some a0) 17 3 fun i1 =>
pF h (some a0) 17 3 (.int (i1 + (1 : Int32))) fun h8 =>
gI h8 (some a0) 17 2 fun i9 =>
pF h8 (some a0) 17 2 (.int (i9 + (1 : Int32))) fun h16 =>
gI h16 (some a0) 17 4 fun i17 =>
((i9 + (1 : Int32) ≤ i17 → rv h16 (some a0) 17 (f_J22_afterNodeInsertion G h16 (some a0) i_5 (fun h26 =>
K none h26))) ∧
(¬ (i9 + (1 : Int32) ≤ i17) → rv h16 (some a0) 17 (dR G Y_J21_resize cJ21_resize 14 [va_rf (some a0)] h16 k n (fun r31 h30 k34 n35 =>
rv h30 (some a0) 17 (f_J22_afterNodeInsertion G h30 (some a0) i_5 (fun h39 =>
K none h39))) xN)))
theorem s_J21_putVal_259 {G : Gt} {E : Ev} {h : Hp} {k0 n0 : Nat} {a0 : Nat} {i_5 : Int32} {K : Option Nat → Hp → Prop} (hG : Base G) (hA : 0 ≤ k0) (hB : 0 ≤ n0) (hf : g_J21_putVal_259 G E h (k0 - 0) (n0 - 0) a0 i_5 K) : V G E Y_J21_putVal cJ21_putVal 13 (QM G E (kR K) xN) h k0 n0 259 [(0, .ref a0), (5, .int i_5)] [] := by
  obtain ⟨k, hk9⟩ : ∃ z, z = k0 - 0 := ⟨_, rfl⟩
  obtain ⟨n, hn9⟩ : ∃ z, z = n0 - 0 := ⟨_, rfl⟩
  rw [← hk9, ← hn9] at hf
  refine V.weak (k' := k + 0) (n' := n + 0) ?_ (by omega) (by omega)
  unfold g_J21_putVal_259 at hf
  refine v_aload_n (i := 0) dJ21_putVal_259 rfl rfl ?_
  refine v_dup dJ21_putVal_260 rfl ?_
  replace hf := gI_e hf
  obtain ⟨w2, fs3, i1, hh4, hk5, hf⟩ := hf
  refine v_getf (T := TJ22) (ci := 17) 3 dJ21_putVal_261 q830 rfl in_J22 (Nat.le_of_ble_eq_true rfl) (Or.inl rfl) hh4 hk5 ?_
  refine v_iconst (v := 1) dJ21_putVal_264 (by decide) ?_
  refine v_iadd dJ21_putVal_265 ?_
  replace hf := pF_e hf
  obtain ⟨fs6, hh7, hf⟩ := hf
  refine v_putf (v := .int (i1 + (1 : Int32))) (T := TJ22) (ci := 17) (ty := .int) 3 dJ21_putVal_266 q830 rfl in_J22 tyJ22 tyJ22_ok nmJ22 (Nat.le_of_ble_eq_true rfl) (Or.inl rfl) rfl (by decide +kernel) rfl rfl hh7 ?_
  obtain ⟨h8, eh8⟩ : ∃ z, z = hs h a0 (true, .inr (17, fs6.set 3 (.int (i1 + (1 : Int32))))) := ⟨_, rfl⟩
  try rw [← eh8] at hf
  rw [← eh8]
  refine v_aload_n (i := 0) dJ21_putVal_269 rfl rfl ?_
  refine v_dup dJ21_putVal_270 rfl ?_
  replace hf := gI_e hf
  obtain ⟨w10, fs11, i9, hh12, hk13, hf⟩ := hf
  refine v_getf (T := TJ22) (ci := 17) 2 dJ21_putVal_271 q825 rfl in_J22 (Nat.le_of_ble_eq_true rfl) (Or.inl rfl) hh12 hk13 ?_
  refine v_iconst (v := 1) dJ21_putVal_274 (by decide) ?_
  refine v_iadd dJ21_putVal_275 ?_
  refine v_dup_x1 dJ21_putVal_276 rfl rfl ?_
  replace hf := pF_e hf
  obtain ⟨fs14, hh15, hf⟩ := hf
  refine v_putf (v := .int (i9 + (1 : Int32))) (T := TJ22) (ci := 17) (ty := .int) 2 dJ21_putVal_277 q825 rfl in_J22 tyJ22 tyJ22_ok nmJ22 (Nat.le_of_ble_eq_true rfl) (Or.inl rfl) rfl (by decide +kernel) rfl rfl hh15 ?_
  obtain ⟨h16, eh16⟩ : ∃ z, z = hs h8 a0 (true, .inr (17, fs14.set 2 (.int (i9 + (1 : Int32))))) := ⟨_, rfl⟩
  try rw [← eh16] at hf
  rw [← eh16]
  refine v_aload_n (i := 0) dJ21_putVal_280 rfl rfl ?_
  replace hf := gI_e hf
  obtain ⟨w18, fs19, i17, hh20, hk21, hf⟩ := hf
  refine v_getf (T := TJ22) (ci := 17) 4 dJ21_putVal_281 q831 rfl in_J22 (Nat.le_of_ble_eq_true rfl) (Or.inl rfl) hh20 hk21 ?_
  refine v_icmp_le 292 dJ21_putVal_284 (by decide) (fun c22 => ?_) (fun c22 => ?_)
  · replace hf := hf.1 c22
    refine v_aload_n (i := 0) dJ21_putVal_292 rfl rfl ?_
    refine v_iload (i := 5) dJ21_putVal_293 rfl ?_
    replace hf := rv_e hf
    obtain ⟨w23, fs24, hh25, hf⟩ := hf
    refine V.addK0 ?_
    refine V.addN0 ?_
    refine v_callA (mc := 0) (ms := 0) 1 dJ21_putVal_295 (m_J22_afterNodeInsertion hG hf) rfl hh25 rfl (lw_U q1506 q1508 q1509 q1510 q117 q1511) q1516 rfl (by decide +kernel) (by decide) rfl (cat_len (Nat.le_of_ble_eq_true rfl)) (kk_V fun h26 hg => ?_) (fun _ _ _ hx => hx.elim)
    replace hf := hg
    clear hg
    refine v_null dJ21_putVal_298 ?_
    exact v_qret (r := none) dJ21_putVal_299 rfl (Or.inl ⟨_, rfl⟩) ⟨_, rfl, hf⟩
  · replace hf := hf.2 c22
    refine v_aload_n (i := 0) dJ21_putVal_287 rfl rfl ?_
    replace hf := rv_e hf
    obtain ⟨w27, fs28, hh29, hf⟩ := hf
    obtain ⟨mc32, ms33, hkmc32, hnms33, hM⟩ := hf
    refine V.weak (k' := ((k - mc32) + 0) + mc32) (n' := ((n - ms33) + 0) + ms33) ?_ (by omega) (by omega)
    refine v_callU 0 dJ21_putVal_288 hM rfl hh29 rfl (lw_U q1076 q1078 q1079 q1077 q116 q1080) rfl rfl (by decide +kernel) (by decide) rfl (cat_len (Nat.le_of_ble_eq_true rfl)) (kk_R fun r31 h30 hg => ?_) (fun _ _ _ hx => hx.elim)
    have hf := hg
    clear hg
    refine v_pop dJ21_putVal_291 (rf_cat _) ?_
    refine v_aload_n (i := 0) dJ21_putVal_292 rfl rfl ?_
    refine v_iload (i := 5) dJ21_putVal_293 rfl ?_
    replace hf := rv_e hf
    obtain ⟨w36, fs37, hh38, hf⟩ := hf
    refine V.addK0 ?_
    refine V.addN0 ?_
    refine v_callA (mc := 0) (ms := 0) 1 dJ21_putVal_295 (m_J22_afterNodeInsertion hG hf) rfl hh38 rfl (lw_U q1506 q1508 q1509 q1510 q117 q1511) q1516 rfl (by decide +kernel) (by decide) rfl (cat_len (Nat.le_of_ble_eq_true rfl)) (kk_V fun h39 hg => ?_) (fun _ _ _ hx => hx.elim)
    replace hf := hg
    clear hg
    refine v_null dJ21_putVal_298 ?_
    exact v_qret (r := none) dJ21_putVal_299 rfl (Or.inl ⟨_, rfl⟩) ⟨_, rfl, hf⟩
theorem b_J21_putVal {G : Gt} {h : Hp} {mc ms : Nat} {a0 : Nat} {i_1 : Int32} {r_2 : Option Nat} {r_3 : Option Nat} {i_4 : Int32} {i_5 : Int32} {K : Option Nat → Hp → Prop} (hG : Base G) (hf : ∀ E : Ev, V G E Y_J21_putVal cJ21_putVal 13 (QM G E (kR K) xN) h mc ms 0 [(0, .ref a0), (1, .int i_1), (2, va_rf r_2), (3, va_rf r_3), (4, .int i_4), (5, .int i_5)] []) : MM G Y_J21_putVal cJ21_putVal 13 mc ms [.ref a0, .int i_1, va_rf r_2, va_rf r_3, .int i_4, .int i_5] h (kR K) xN := mm_of hG (by decide +kernel) rfl (ac_c rfl (ac_c rfl (ac_c (rf_cat _) (ac_c (rf_cat _) (ac_c rfl (ac_c rfl ac_nil)))))) (Nat.le_of_ble_eq_true rfl) (fun E _ _ => hf E)
abbrev Y_J21_put : Yt := (yJ21_put, some (.object "java/lang/Object"), 5, 145, [])
def f_J21_put (G : Gt) (h : Hp) (k n : Nat) (t_0 : Option Nat) (r_1 : Option Nat) (r_2 : Option Nat) (K : Option Nat → Hp → Prop) : Prop :=
f_J21_hash G h r_1 (fun i2 h1 =>
rv h1 t_0 17 (dR G Y_J21_putVal cJ21_putVal 13 [va_rf t_0, .int i2, va_rf r_1, va_rf r_2, .int (0 : Int32), .int (1 : Int32)] h1 k n (fun r7 h6 k10 n11 =>
K r7 h6) xN))
theorem m_J21_put {G : Gt} {h : Hp} {mc ms : Nat} {a0 : Nat} {r_1 : Option Nat} {r_2 : Option Nat} {K : Option Nat → Hp → Prop} (hG : Base G) (hA : 0 ≤ mc) (hB : 0 ≤ ms) (hf : f_J21_put G h (mc - 0) (ms - 0) (some a0) r_1 r_2 K) : MM G Y_J21_put cJ21_put 3 mc ms [.ref a0, va_rf r_1, va_rf r_2] h (kR K) xN := by
  refine mm_of hG (by decide +kernel) rfl (ac_c rfl (ac_c (rf_cat _) (ac_c (rf_cat _) ac_nil))) (Nat.le_of_ble_eq_true rfl) (fun E _ _ => ?_)
  obtain ⟨k, hk9⟩ : ∃ z, z = mc - 0 := ⟨_, rfl⟩
  obtain ⟨n, hn9⟩ : ∃ z, z = ms - 0 := ⟨_, rfl⟩
  rw [← hk9, ← hn9] at hf
  refine V.weak (k' := k + 0) (n' := n + 0) ?_ (by omega) (by omega)
  show V G E Y_J21_put cJ21_put 3 (QM G E (kR K) xN) h (k + 0) (n + 0) 0 [(0, .ref a0), (1, va_rf r_1), (2, va_rf r_2)] []
  unfold f_J21_put at hf
  refine v_qload_n (r := (some a0)) (i := 0) dJ21_put_0 rfl rfl ?_
  refine v_qload_n (r := r_1) (i := 1) dJ21_put_1 rfl rfl ?_
  refine V.addK0 ?_
  refine V.addN0 ?_
  refine v_callS (mc := 0) (ms := 0) 1 dJ21_put_2 (m_J21_hash hG hf) rfl (lw_S q977 q978 q116 q979) rfl (by decide +kernel) (by decide) rfl (cat_len (Nat.le_of_ble_eq_true rfl)) (kk_I fun i2 h1 hg => ?_) (fun _ _ _ hx => hx.elim)
  replace hf := hg
  clear hg
  refine v_qload_n (r := r_1) (i := 1) dJ21_put_5 rfl rfl ?_
  refine v_qload_n (r := r_2) (i := 2) dJ21_put_6 rfl rfl ?_
  refine v_iconst (v := 0) dJ21_put_7 (by decide) ?_
  refine v_iconst (v := 1) dJ21_put_8 (by decide) ?_
  replace hf := rv_e hf
  obtain ⟨w3, fs4, hh5, hf⟩ := hf
  obtain ⟨mc8, ms9, hkmc8, hnms9, hM⟩ := hf
  refine V.weak (k' := ((k - mc8) + 0) + mc8) (n' := ((n - ms9) + 0) + ms9) ?_ (by omega) (by omega)
  refine v_callU 5 dJ21_put_9 hM rfl hh5 rfl (lw_U q1071 q1073 q1074 q1072 q116 q1075) rfl rfl (by decide +kernel) (by decide) rfl (cat_len (Nat.le_of_ble_eq_true rfl)) (kk_R fun r7 h6 hg => ?_) (fun _ _ _ hx => hx.elim)
  have hf := hg
  clear hg
  exact v_qret (r := r7) dJ21_put_12 rfl (Or.inl ⟨_, rfl⟩) ⟨_, rfl, hf⟩
abbrev Y_J21_getNode : Yt := (yJ21_getNode, some (.object "java/util/HashMap$Node"), 3, 81, [])
def g_J21_getNode_0 (G : Gt) (E : Ev) (h : Hp) (k n : Nat) (a0 : Nat) (r_1 : Option Nat) (K : Option Nat → Hp → Prop) : Prop :=
gR h (some a0) 17 0 fun r1 =>
((r1 = none → K none h) ∧
(∀ y6, r1 = some y6 → aL h r1 fun i12 =>
((i12 ≤ 0 → K none h) ∧
(¬ (i12 ≤ 0) → f_J21_hash G h r_1 (fun i15 h14 =>
aQ h14 r1 ((i12 - (1 : Int32)) &&& i15) fun r23 =>
((r23 = none → K none h14) ∧
(∀ y24, r23 = some y24 → gI h14 r23 21 0 fun i26 =>
((¬ (i26 = i15) → gR h14 r23 21 3 fun r32 =>
((r32 = none → K none h14) ∧
(∀ y37, r32 = some y37 → rv h14 r23 21 ((((0 : Int32) = 0 → V G E Y_J21_getNode cJ21_getNode 8 (QM G E (kR K) xN) h14 k n 99 [(1, va_rf r_1), (4, va_rf r32), (6, .int i15)] []) ∧
(¬ ((0 : Int32) = 0) → False)))))) ∧
(i26 = i15 → gR h14 r23 21 1 fun r43 =>
((r43 = r_1 → K r23 h14) ∧
(¬ (r43 = r_1) → ((r_1 = none → gR h14 r23 21 3 fun r51 =>
((r51 = none → K none h14) ∧
(∀ y56, r51 = some y56 → rv h14 r23 21 ((((0 : Int32) = 0 → V G E Y_J21_getNode cJ21_getNode 8 (QM G E (kR K) xN) h14 k n 99 [(1, va_rf r_1), (4, va_rf r51), (6, .int i15)] []) ∧
(¬ ((0 : Int32) = 0) → False)))))) ∧
(∀ y49, r_1 = some y49 → rv h14 r_1 6 (f_X6_equals G h14 r_1 r43 (fun i66 h65 =>
((i66 = 0 → gR h65 r23 21 3 fun r68 =>
((r68 = none → K none h65) ∧
(∀ y73, r68 = some y73 → rv h65 r23 21 ((((0 : Int32) = 0 → V G E Y_J21_getNode cJ21_getNode 8 (QM G E (kR K) xN) h65 k n 99 [(1, va_rf r_1), (4, va_rf r68), (6, .int i15)] []) ∧
(¬ ((0 : Int32) = 0) → False)))))) ∧
(¬ (i66 = 0) → K r23 h65)))))))))))))))))
theorem s_J21_getNode_0 {G : Gt} {E : Ev} {h : Hp} {k0 n0 : Nat} {a0 : Nat} {r_1 : Option Nat} {K : Option Nat → Hp → Prop} (hG : Base G) (hA : 0 ≤ k0) (hB : 0 ≤ n0) (hf : g_J21_getNode_0 G E h (k0 - 0) (n0 - 0) a0 r_1 K) : V G E Y_J21_getNode cJ21_getNode 8 (QM G E (kR K) xN) h k0 n0 0 [(0, .ref a0), (1, va_rf r_1)] [] := by
  obtain ⟨k, hk9⟩ : ∃ z, z = k0 - 0 := ⟨_, rfl⟩
  obtain ⟨n, hn9⟩ : ∃ z, z = n0 - 0 := ⟨_, rfl⟩
  rw [← hk9, ← hn9] at hf
  refine V.weak (k' := k + 0) (n' := n + 0) ?_ (by omega) (by omega)
  unfold g_J21_getNode_0 at hf
  refine v_aload_n (i := 0) dJ21_getNode_0 rfl rfl ?_
  replace hf := gR_e hf
  obtain ⟨w2, fs3, r1, hh4, hk5, hf⟩ := hf
  refine v_getf (T := TJ22) (ci := 17) 0 dJ21_getNode_1 q820 rfl in_J22 (Nat.le_of_ble_eq_true rfl) (Or.inl rfl) hh4 hk5 ?_
  refine v_dup dJ21_getNode_4 (rf_cat _) ?_
  refine v_qstore_n (i := 2) (r := r1) (lv' := [(0, .ref a0), (1, va_rf r_1), (2, va_rf r1)]) dJ21_getNode_5 rfl (Nat.le_of_ble_eq_true rfl) rfl rfl ?_
  refine v_ifnull 148 dJ21_getNode_6 (by decide) (fun e7 => ?_) (fun y6 e7 => ?_)
  · replace hf := hf.1 e7
    subst e7
    refine v_null dJ21_getNode_148 ?_
    exact v_qret (r := none) dJ21_getNode_149 rfl (Or.inl ⟨_, rfl⟩) ⟨_, rfl, hf⟩
  · replace hf := hf.2 y6 e7
    subst e7
    refine v_qload_n (r := (some y6)) (i := 2) dJ21_getNode_9 rfl rfl ?_
    replace hf := aL_e hf
    obtain ⟨w8, t9, x10, hh11, i12, ei12, hf⟩ := hf
    refine v_alen dJ21_getNode_10 hh11 ei12.symm ?_
    refine v_dup dJ21_getNode_11 rfl ?_
    refine v_istore (i := 5) (lv' := [(0, .ref a0), (1, va_rf r_1), (2, va_rf (some y6)), (5, .int i12)]) dJ21_getNode_12 (Nat.le_of_ble_eq_true rfl) rfl rfl ?_
    refine v_if_le 148 dJ21_getNode_14 (by decide) (fun c13 => ?_) (fun c13 => ?_)
    · replace hf := hf.1 c13
      refine v_null dJ21_getNode_148 ?_
      exact v_qret (r := none) dJ21_getNode_149 rfl (Or.inl ⟨_, rfl⟩) ⟨_, rfl, hf⟩
    · replace hf := hf.2 c13
      refine v_qload_n (r := (some y6)) (i := 2) dJ21_getNode_17 rfl rfl ?_
      refine v_iload (i := 5) dJ21_getNode_18 rfl ?_
      refine v_iconst (v := 1) dJ21_getNode_20 (by decide) ?_
      refine v_isub dJ21_getNode_21 ?_
      refine v_qload_n (r := r_1) (i := 1) dJ21_getNode_22 rfl rfl ?_
      refine V.addK0 ?_
      refine V.addN0 ?_
      refine v_callS (mc := 0) (ms := 0) 1 dJ21_getNode_23 (m_J21_hash hG hf) rfl (lw_S q977 q978 q116 q979) rfl (by decide +kernel) (by decide) rfl (cat_len (Nat.le_of_ble_eq_true rfl)) (kk_I fun i15 h14 hg => ?_) (fun _ _ _ hx => hx.elim)
      replace hf := hg
      clear hg
      refine v_dup dJ21_getNode_26 rfl ?_
      refine v_istore (i := 6) (lv' := [(0, .ref a0), (1, va_rf r_1), (2, va_rf (some y6)), (5, .int i12), (6, .int i15)]) dJ21_getNode_27 (Nat.le_of_ble_eq_true rfl) rfl rfl ?_
      refine v_iand dJ21_getNode_29 ?_
      replace hf := aQ_e hf
      obtain ⟨w16, t17, N18, f19, hh20, ht21, hi22, r23, er23, hf⟩ := hf
      refine v_aald dJ21_getNode_30 ht21 hh20 hi22 ?_
      rw [← er23]
      refine v_dup dJ21_getNode_31 (rf_cat _) ?_
      refine v_qstore_n (i := 3) (r := r23) (lv' := [(0, .ref a0), (1, va_rf r_1), (2, va_rf (some y6)), (3, va_rf r23), (5, .int i12), (6, .int i15)]) dJ21_getNode_32 rfl (Nat.le_of_ble_eq_true rfl) rfl rfl ?_
      refine v_ifnull 148 dJ21_getNode_33 (by decide) (fun e25 => ?_) (fun y24 e25 => ?_)
      · replace hf := hf.1 e25
        subst e25
        refine v_null dJ21_getNode_148 ?_
        exact v_qret (r := none) dJ21_getNode_149 rfl (Or.inl ⟨_, rfl⟩) ⟨_, rfl, hf⟩
      · replace hf := hf.2 y24 e25
        subst e25
        refine v_qload_n (r := (some y24)) (i := 3) dJ21_getNode_36 rfl rfl ?_
        replace hf := gI_e hf
        obtain ⟨w27, fs28, i26, hh29, hk30, hf⟩ := hf
        refine v_getf (T := TJ31) (ci := 21) 0 dJ21_getNode_37 q1119 rfl in_J31 (Nat.le_of_ble_eq_true rfl) (Or.inl rfl) hh29 hk30 ?_
        refine v_iload (i := 6) dJ21_getNode_40 rfl ?_
        refine v_icmp_ne 71 dJ21_getNode_42 (by decide) (fun c31 => ?_) (fun c31 => ?_)
        · replace hf := hf.1 c31
          refine v_qload_n (r := (some y24)) (i := 3) dJ21_getNode_71 rfl rfl ?_
          replace hf := gR_e hf
          obtain ⟨w33, fs34, r32, hh35, hk36, hf⟩ := hf
          refine v_getf (T := TJ31) (ci := 21) 3 dJ21_getNode_72 q1137 rfl in_J31 (Nat.le_of_ble_eq_true rfl) (Or.inl rfl) hh35 hk36 ?_
          refine v_dup dJ21_getNode_75 (rf_cat _) ?_
          refine v_qstore (i := 4) (r := r32) (lv' := [(0, .ref a0), (1, va_rf r_1), (2, va_rf (some y6)), (3, va_rf (some y24)), (4, va_rf r32), (5, .int i12), (6, .int i15)]) dJ21_getNode_76 (Nat.le_of_ble_eq_true rfl) rfl rfl ?_
          refine v_ifnull 148 dJ21_getNode_78 (by decide) (fun e38 => ?_) (fun y37 e38 => ?_)
          · replace hf := hf.1 e38
            subst e38
            refine v_null dJ21_getNode_148 ?_
            exact v_qret (r := none) dJ21_getNode_149 rfl (Or.inl ⟨_, rfl⟩) ⟨_, rfl, hf⟩
          · replace hf := hf.2 y37 e38
            subst e38
            refine v_qload_n (r := (some y24)) (i := 3) dJ21_getNode_81 rfl rfl ?_
            replace hf := rv_e hf
            obtain ⟨w39, fs40, hh41, hf⟩ := hf
            refine v_instNo dJ21_getNode_82 q1085 hh41 rfl (by decide) ?_
            refine v_if_eq 99 dJ21_getNode_85 (by decide) (fun c42 => ?_) (fun c42 => ?_)
            · replace hf := hf.1 c42
              refine V.lp (lv' := [(1, va_rf r_1), (4, va_rf (some y37)), (6, .int i15)]) [1, 4, 6] rfl ?_
              exact V.weak hf (by omega) (by omega)
            · replace hf := hf.2 c42
              refine v_qload_n (r := (some y24)) (i := 3) dJ21_getNode_88 rfl rfl ?_
              exact hf.elim
        · replace hf := hf.2 c31
          refine v_qload_n (r := (some y24)) (i := 3) dJ21_getNode_45 rfl rfl ?_
          replace hf := gR_e hf
          obtain ⟨w44, fs45, r43, hh46, hk47, hf⟩ := hf
          refine v_getf (T := TJ31) (ci := 21) 1 dJ21_getNode_46 q1126 rfl in_J31 (Nat.le_of_ble_eq_true rfl) (Or.inl rfl) hh46 hk47 ?_
          refine v_dup dJ21_getNode_49 (rf_cat _) ?_
          refine v_qstore (i := 7) (r := r43) (lv' := [(0, .ref a0), (1, va_rf r_1), (2, va_rf (some y6)), (3, va_rf (some y24)), (5, .int i12), (6, .int i15), (7, va_rf r43)]) dJ21_getNode_50 (Nat.le_of_ble_eq_true rfl) rfl rfl ?_
          refine v_qload_n (r := r_1) (i := 1) dJ21_getNode_52 rfl rfl ?_
          refine v_acmp_eq (x := r43) (y := r_1) 69 dJ21_getNode_53 (by decide) (fun c48 => ?_) (fun c48 => ?_)
          · replace hf := hf.1 c48
            refine v_qload_n (r := (some y24)) (i := 3) dJ21_getNode_69 rfl rfl ?_
            exact v_qret (r := (some y24)) dJ21_getNode_70 rfl (Or.inl ⟨_, rfl⟩) ⟨_, rfl, hf⟩
          · replace hf := hf.2 c48
            refine v_qload_n (r := r_1) (i := 1) dJ21_getNode_56 rfl rfl ?_
            refine v_ifnull 71 dJ21_getNode_57 (by decide) (fun e50 => ?_) (fun y49 e50 => ?_)
            · replace hf := hf.1 e50
              subst e50
              refine v_qload_n (r := (some y24)) (i := 3) dJ21_getNode_71 rfl rfl ?_
              replace hf := gR_e hf
              obtain ⟨w52, fs53, r51, hh54, hk55, hf⟩ := hf
              refine v_getf (T := TJ31) (ci := 21) 3 dJ21_getNode_72 q1137 rfl in_J31 (Nat.le_of_ble_eq_true rfl) (Or.inl rfl) hh54 hk55 ?_
              refine v_dup dJ21_getNode_75 (rf_cat _) ?_
              refine v_qstore (i := 4) (r := r51) (lv' := [(0, .ref a0), (1, va_rf none), (2, va_rf (some y6)), (3, va_rf (some y24)), (4, va_rf r51), (5, .int i12), (6, .int i15), (7, va_rf r43)]) dJ21_getNode_76 (Nat.le_of_ble_eq_true rfl) rfl rfl ?_
              refine v_ifnull 148 dJ21_getNode_78 (by decide) (fun e57 => ?_) (fun y56 e57 => ?_)
              · replace hf := hf.1 e57
                subst e57
                refine v_null dJ21_getNode_148 ?_
                exact v_qret (r := none) dJ21_getNode_149 rfl (Or.inl ⟨_, rfl⟩) ⟨_, rfl, hf⟩
              · replace hf := hf.2 y56 e57
                subst e57
                refine v_qload_n (r := (some y24)) (i := 3) dJ21_getNode_81 rfl rfl ?_
                replace hf := rv_e hf
                obtain ⟨w58, fs59, hh60, hf⟩ := hf
                refine v_instNo dJ21_getNode_82 q1085 hh60 rfl (by decide) ?_
                refine v_if_eq 99 dJ21_getNode_85 (by decide) (fun c61 => ?_) (fun c61 => ?_)
                · replace hf := hf.1 c61
                  refine V.lp (lv' := [(1, va_rf none), (4, va_rf (some y56)), (6, .int i15)]) [1, 4, 6] rfl ?_
                  exact V.weak hf (by omega) (by omega)
                · replace hf := hf.2 c61
                  refine v_qload_n (r := (some y24)) (i := 3) dJ21_getNode_88 rfl rfl ?_
                  exact hf.elim
            · replace hf := hf.2 y49 e50
              subst e50
              refine v_qload_n (r := (some y49)) (i := 1) dJ21_getNode_60 rfl rfl ?_
              refine v_qload (r := r43) (i := 7) dJ21_getNode_61 rfl ?_
              replace hf := rv_e hf
              obtain ⟨w62, fs63, hh64, hf⟩ := hf
              refine V.addK0 ?_
              refine V.addN0 ?_
              refine v_callA (mc := 0) (ms := 0) 1 dJ21_getNode_63 (m_X6_equals hG hf) rfl hh64 rfl (lw_U q1404 q1406 q1414 q1415 q123 q1416) q1403 rfl (by decide +kernel) (by decide) rfl (cat_len (Nat.le_of_ble_eq_true rfl)) (kk_I fun i66 h65 hg => ?_) (fun _ _ _ hx => hx.elim)
              replace hf := hg
              clear hg
              refine v_if_eq 71 dJ21_getNode_66 (by decide) (fun c67 => ?_) (fun c67 => ?_)
              · replace hf := hf.1 c67
                refine v_qload_n (r := (some y24)) (i := 3) dJ21_getNode_71 rfl rfl ?_
                replace hf := gR_e hf
                obtain ⟨w69, fs70, r68, hh71, hk72, hf⟩ := hf
                refine v_getf (T := TJ31) (ci := 21) 3 dJ21_getNode_72 q1137 rfl in_J31 (Nat.le_of_ble_eq_true rfl) (Or.inl rfl) hh71 hk72 ?_
                refine v_dup dJ21_getNode_75 (rf_cat _) ?_
                refine v_qstore (i := 4) (r := r68) (lv' := [(0, .ref a0), (1, va_rf (some y49)), (2, va_rf (some y6)), (3, va_rf (some y24)), (4, va_rf r68), (5, .int i12), (6, .int i15), (7, va_rf r43)]) dJ21_getNode_76 (Nat.le_of_ble_eq_true rfl) rfl rfl ?_
                refine v_ifnull 148 dJ21_getNode_78 (by decide) (fun e74 => ?_) (fun y73 e74 => ?_)
                · replace hf := hf.1 e74
                  subst e74
                  refine v_null dJ21_getNode_148 ?_
                  exact v_qret (r := none) dJ21_getNode_149 rfl (Or.inl ⟨_, rfl⟩) ⟨_, rfl, hf⟩
                · replace hf := hf.2 y73 e74
                  subst e74
                  refine v_qload_n (r := (some y24)) (i := 3) dJ21_getNode_81 rfl rfl ?_
                  replace hf := rv_e hf
                  obtain ⟨w75, fs76, hh77, hf⟩ := hf
                  refine v_instNo dJ21_getNode_82 q1085 hh77 rfl (by decide) ?_
                  refine v_if_eq 99 dJ21_getNode_85 (by decide) (fun c78 => ?_) (fun c78 => ?_)
                  · replace hf := hf.1 c78
                    refine V.lp (lv' := [(1, va_rf (some y49)), (4, va_rf (some y73)), (6, .int i15)]) [1, 4, 6] rfl ?_
                    exact V.weak hf (by omega) (by omega)
                  · replace hf := hf.2 c78
                    refine v_qload_n (r := (some y24)) (i := 3) dJ21_getNode_88 rfl rfl ?_
                    exact hf.elim
              · replace hf := hf.2 c67
                refine v_qload_n (r := (some y24)) (i := 3) dJ21_getNode_69 rfl rfl ?_
                exact v_qret (r := (some y24)) dJ21_getNode_70 rfl (Or.inl ⟨_, rfl⟩) ⟨_, rfl, hf⟩
def g_J21_getNode_99 (G : Gt) (E : Ev) (h : Hp) (k n : Nat) (r_1 : Option Nat) (r_4 : Option Nat) (i_6 : Int32) (K : Option Nat → Hp → Prop) : Prop :=
gI h r_4 21 0 fun i1 =>
((¬ (i1 = i_6) → gR h r_4 21 3 fun r8 =>
((r8 = none → K none h) ∧
(∀ y13, r8 = some y13 → V G E Y_J21_getNode cJ21_getNode 8 (QM G E (kR K) xN) h k n 99 [(1, va_rf r_1), (4, va_rf r8), (6, .int i_6)] []))) ∧
(i1 = i_6 → gR h r_4 21 1 fun r15 =>
((r15 = r_1 → K r_4 h) ∧
(¬ (r15 = r_1) → ((r_1 = none → gR h r_4 21 3 fun r23 =>
((r23 = none → K none h) ∧
(∀ y28, r23 = some y28 → V G E Y_J21_getNode cJ21_getNode 8 (QM G E (kR K) xN) h k n 99 [(1, va_rf r_1), (4, va_rf r23), (6, .int i_6)] []))) ∧
(∀ y21, r_1 = some y21 → rv h r_1 6 (f_X6_equals G h r_1 r15 (fun i34 h33 =>
((i34 = 0 → gR h33 r_4 21 3 fun r36 =>
((r36 = none → K none h33) ∧
(∀ y41, r36 = some y41 → V G E Y_J21_getNode cJ21_getNode 8 (QM G E (kR K) xN) h33 k n 99 [(1, va_rf r_1), (4, va_rf r36), (6, .int i_6)] []))) ∧
(¬ (i34 = 0) → K r_4 h33))))))))))
theorem s_J21_getNode_99 {G : Gt} {E : Ev} {h : Hp} {k0 n0 : Nat} {r_1 : Option Nat} {r_4 : Option Nat} {i_6 : Int32} {K : Option Nat → Hp → Prop} (hG : Base G) (hA : 0 ≤ k0) (hB : 0 ≤ n0) (hf : g_J21_getNode_99 G E h (k0 - 0) (n0 - 0) r_1 r_4 i_6 K) : V G E Y_J21_getNode cJ21_getNode 8 (QM G E (kR K) xN) h k0 n0 99 [(1, va_rf r_1), (4, va_rf r_4), (6, .int i_6)] [] := by
  obtain ⟨k, hk9⟩ : ∃ z, z = k0 - 0 := ⟨_, rfl⟩
  obtain ⟨n, hn9⟩ : ∃ z, z = n0 - 0 := ⟨_, rfl⟩
  rw [← hk9, ← hn9] at hf
  refine V.weak (k' := k + 0) (n' := n + 0) ?_ (by omega) (by omega)
  unfold g_J21_getNode_99 at hf
  refine v_qload (r := r_4) (i := 4) dJ21_getNode_99 rfl ?_
  obtain ⟨a2, rfl⟩ := gI_s hf
  replace hf := gI_e hf
  obtain ⟨w3, fs4, i1, hh5, hk6, hf⟩ := hf
  refine v_getf (T := TJ31) (ci := 21) 0 dJ21_getNode_101 q1119 rfl in_J31 (Nat.le_of_ble_eq_true rfl) (Or.inl rfl) hh5 hk6 ?_
  refine v_iload (i := 6) dJ21_getNode_104 rfl ?_
  refine v_icmp_ne 137 dJ21_getNode_106 (by decide) (fun c7 => ?_) (fun c7 => ?_)
  · replace hf := hf.1 c7
    refine v_qload (r := (some a2)) (i := 4) dJ21_getNode_137 rfl ?_
    replace hf := gR_e hf
    obtain ⟨w9, fs10, r8, hh11, hk12, hf⟩ := hf
    refine v_getf (T := TJ31) (ci := 21) 3 dJ21_getNode_139 q1137 rfl in_J31 (Nat.le_of_ble_eq_true rfl) (Or.inl rfl) hh11 hk12 ?_
    refine v_dup dJ21_getNode_142 (rf_cat _) ?_
    refine v_qstore (i := 4) (r := r8) (lv' := [(1, va_rf r_1), (4, va_rf r8), (6, .int i_6)]) dJ21_getNode_143 (Nat.le_of_ble_eq_true rfl) rfl rfl ?_
    refine v_ifnonnull 99 dJ21_getNode_145 (by decide) (fun y13 e14 => ?_) (fun e14 => ?_)
    · replace hf := hf.2 y13 e14
      subst e14
      exact V.weak hf (by omega) (by omega)
    · replace hf := hf.1 e14
      subst e14
      refine v_null dJ21_getNode_148 ?_
      exact v_qret (r := none) dJ21_getNode_149 rfl (Or.inl ⟨_, rfl⟩) ⟨_, rfl, hf⟩
  · replace hf := hf.2 c7
    refine v_qload (r := (some a2)) (i := 4) dJ21_getNode_109 rfl ?_
    replace hf := gR_e hf
    obtain ⟨w16, fs17, r15, hh18, hk19, hf⟩ := hf
    refine v_getf (T := TJ31) (ci := 21) 1 dJ21_getNode_111 q1126 rfl in_J31 (Nat.le_of_ble_eq_true rfl) (Or.inl rfl) hh18 hk19 ?_
    refine v_dup dJ21_getNode_114 (rf_cat _) ?_
    refine v_qstore (i := 7) (r := r15) (lv' := [(1, va_rf r_1), (4, va_rf (some a2)), (6, .int i_6), (7, va_rf r15)]) dJ21_getNode_115 (Nat.le_of_ble_eq_true rfl) rfl rfl ?_
    refine v_qload_n (r := r_1) (i := 1) dJ21_getNode_117 rfl rfl ?_
    refine v_acmp_eq (x := r15) (y := r_1) 134 dJ21_getNode_118 (by decide) (fun c20 => ?_) (fun c20 => ?_)
    · replace hf := hf.1 c20
      refine v_qload (r := (some a2)) (i := 4) dJ21_getNode_134 rfl ?_
      exact v_qret (r := (some a2)) dJ21_getNode_136 rfl (Or.inl ⟨_, rfl⟩) ⟨_, rfl, hf⟩
    · replace hf := hf.2 c20
      refine v_qload_n (r := r_1) (i := 1) dJ21_getNode_121 rfl rfl ?_
      refine v_ifnull 137 dJ21_getNode_122 (by decide) (fun e22 => ?_) (fun y21 e22 => ?_)
      · replace hf := hf.1 e22
        subst e22
        refine v_qload (r := (some a2)) (i := 4) dJ21_getNode_137 rfl ?_
        replace hf := gR_e hf
        obtain ⟨w24, fs25, r23, hh26, hk27, hf⟩ := hf
        refine v_getf (T := TJ31) (ci := 21) 3 dJ21_getNode_139 q1137 rfl in_J31 (Nat.le_of_ble_eq_true rfl) (Or.inl rfl) hh26 hk27 ?_
        refine v_dup dJ21_getNode_142 (rf_cat _) ?_
        refine v_qstore (i := 4) (r := r23) (lv' := [(1, va_rf none), (4, va_rf r23), (6, .int i_6), (7, va_rf r15)]) dJ21_getNode_143 (Nat.le_of_ble_eq_true rfl) rfl rfl ?_
        refine v_ifnonnull 99 dJ21_getNode_145 (by decide) (fun y28 e29 => ?_) (fun e29 => ?_)
        · replace hf := hf.2 y28 e29
          subst e29
          refine V.lp (lv' := [(1, va_rf none), (4, va_rf (some y28)), (6, .int i_6)]) [0, 1, 2] rfl ?_
          exact V.weak hf (by omega) (by omega)
        · replace hf := hf.1 e29
          subst e29
          refine v_null dJ21_getNode_148 ?_
          exact v_qret (r := none) dJ21_getNode_149 rfl (Or.inl ⟨_, rfl⟩) ⟨_, rfl, hf⟩
      · replace hf := hf.2 y21 e22
        subst e22
        refine v_qload_n (r := (some y21)) (i := 1) dJ21_getNode_125 rfl rfl ?_
        refine v_qload (r := r15) (i := 7) dJ21_getNode_126 rfl ?_
        replace hf := rv_e hf
        obtain ⟨w30, fs31, hh32, hf⟩ := hf
        refine V.addK0 ?_
        refine V.addN0 ?_
        refine v_callA (mc := 0) (ms := 0) 1 dJ21_getNode_128 (m_X6_equals hG hf) rfl hh32 rfl (lw_U q1404 q1406 q1414 q1415 q123 q1416) q1403 rfl (by decide +kernel) (by decide) rfl (cat_len (Nat.le_of_ble_eq_true rfl)) (kk_I fun i34 h33 hg => ?_) (fun _ _ _ hx => hx.elim)
        replace hf := hg
        clear hg
        refine v_if_eq 137 dJ21_getNode_131 (by decide) (fun c35 => ?_) (fun c35 => ?_)
        · replace hf := hf.1 c35
          refine v_qload (r := (some a2)) (i := 4) dJ21_getNode_137 rfl ?_
          replace hf := gR_e hf
          obtain ⟨w37, fs38, r36, hh39, hk40, hf⟩ := hf
          refine v_getf (T := TJ31) (ci := 21) 3 dJ21_getNode_139 q1137 rfl in_J31 (Nat.le_of_ble_eq_true rfl) (Or.inl rfl) hh39 hk40 ?_
          refine v_dup dJ21_getNode_142 (rf_cat _) ?_
          refine v_qstore (i := 4) (r := r36) (lv' := [(1, va_rf (some y21)), (4, va_rf r36), (6, .int i_6), (7, va_rf r15)]) dJ21_getNode_143 (Nat.le_of_ble_eq_true rfl) rfl rfl ?_
          refine v_ifnonnull 99 dJ21_getNode_145 (by decide) (fun y41 e42 => ?_) (fun e42 => ?_)
          · replace hf := hf.2 y41 e42
            subst e42
            refine V.lp (lv' := [(1, va_rf (some y21)), (4, va_rf (some y41)), (6, .int i_6)]) [0, 1, 2] rfl ?_
            exact V.weak hf (by omega) (by omega)
          · replace hf := hf.1 e42
            subst e42
            refine v_null dJ21_getNode_148 ?_
            exact v_qret (r := none) dJ21_getNode_149 rfl (Or.inl ⟨_, rfl⟩) ⟨_, rfl, hf⟩
        · replace hf := hf.2 c35
          refine v_qload (r := (some a2)) (i := 4) dJ21_getNode_134 rfl ?_
          exact v_qret (r := (some a2)) dJ21_getNode_136 rfl (Or.inl ⟨_, rfl⟩) ⟨_, rfl, hf⟩
theorem b_J21_getNode {G : Gt} {h : Hp} {mc ms : Nat} {a0 : Nat} {r_1 : Option Nat} {K : Option Nat → Hp → Prop} (hG : Base G) (hf : ∀ E : Ev, V G E Y_J21_getNode cJ21_getNode 8 (QM G E (kR K) xN) h mc ms 0 [(0, .ref a0), (1, va_rf r_1)] []) : MM G Y_J21_getNode cJ21_getNode 8 mc ms [.ref a0, va_rf r_1] h (kR K) xN := mm_of hG (by decide +kernel) rfl (ac_c rfl (ac_c (rf_cat _) ac_nil)) (Nat.le_of_ble_eq_true rfl) (fun E _ _ => hf E)
abbrev Y_J22_get : Yt := (yJ22_get, some (.object "java/lang/Object"), 4, 108, [])
def f_J22_get (G : Gt) (h : Hp) (k n : Nat) (t_0 : Option Nat) (r_1 : Option Nat) (K : Option Nat → Hp → Prop) : Prop :=
rv h t_0 17 (dR G Y_J21_getNode cJ21_getNode 8 [va_rf t_0, va_rf r_1] h k n (fun r5 h4 k8 n9 =>
((r5 = none → K none h4) ∧
(∀ y10, r5 = some y10 → gI h4 t_0 17 10 fun i12 =>
((i12 = 0 → gR h4 r5 21 2 fun r18 =>
K r18 h4) ∧
(¬ (i12 = 0) → rv h4 t_0 17 (f_J22_afterNodeAccess G h4 t_0 r5 (fun h26 =>
gR h26 r5 21 2 fun r27 =>
K r27 h26))))))) xN)
theorem m_J22_get {G : Gt} {h : Hp} {mc ms : Nat} {a0 : Nat} {r_1 : Option Nat} {K : Option Nat → Hp → Prop} (hG : Base G) (hA : 0 ≤ mc) (hB : 0 ≤ ms) (hf : f_J22_get G h (mc - 0) (ms - 0) (some a0) r_1 K) : MM G Y_J22_get cJ22_get 3 mc ms [.ref a0, va_rf r_1] h (kR K) xN := by
  refine mm_of hG (by decide +kernel) rfl (ac_c rfl (ac_c (rf_cat _) ac_nil)) (Nat.le_of_ble_eq_true rfl) (fun E _ _ => ?_)
  obtain ⟨k, hk9⟩ : ∃ z, z = mc - 0 := ⟨_, rfl⟩
  obtain ⟨n, hn9⟩ : ∃ z, z = ms - 0 := ⟨_, rfl⟩
  rw [← hk9, ← hn9] at hf
  refine V.weak (k' := k + 0) (n' := n + 0) ?_ (by omega) (by omega)
  show V G E Y_J22_get cJ22_get 3 (QM G E (kR K) xN) h (k + 0) (n + 0) 0 [(0, .ref a0), (1, va_rf r_1)] []
  unfold f_J22_get at hf
  refine v_qload_n (r := (some a0)) (i := 0) dJ22_get_0 rfl rfl ?_
  refine v_qload_n (r := r_1) (i := 1) dJ22_get_1 rfl rfl ?_
  replace hf := rv_e hf
  obtain ⟨w1, fs2, hh3, hf⟩ := hf
  obtain ⟨mc6, ms7, hkmc6, hnms7, hM⟩ := hf
  refine V.weak (k' := ((k - mc6) + 0) + mc6) (n' := ((n - ms7) + 0) + ms7) ?_ (by omega) (by omega)
  refine v_callU 1 dJ22_get_2 hM rfl hh3 rfl (lw_U q1655 q1656 q1658 q1534 q116 q1537) rfl rfl (by decide +kernel) (by decide) rfl (cat_len (Nat.le_of_ble_eq_true rfl)) (kk_R fun r5 h4 hg => ?_) (fun _ _ _ hx => hx.elim)
  have hf := hg
  clear hg
  refine v_dup dJ22_get_5 (rf_cat _) ?_
  refine v_qstore_n (i := 2) (r := r5) (lv' := [(0, va_rf (some a0)), (1, va_rf r_1), (2, va_rf r5)]) dJ22_get_6 rfl (Nat.le_of_ble_eq_true rfl) rfl rfl ?_
  refine v_ifnonnull 12 dJ22_get_7 (by decide) (fun y10 e11 => ?_) (fun e11 => ?_)
  · replace hf := hf.2 y10 e11
    subst e11
    refine v_qload_n (r := (some a0)) (i := 0) dJ22_get_12 rfl rfl ?_
    replace hf := gI_e hf
    obtain ⟨w13, fs14, i12, hh15, hk16, hf⟩ := hf
    refine v_getf (T := TJ22) (ci := 17) 10 dJ22_get_13 q817 rfl in_J22 (Nat.le_of_ble_eq_true rfl) (Or.inl rfl) hh15 hk16 ?_
    refine v_if_eq 24 dJ22_get_16 (by decide) (fun c17 => ?_) (fun c17 => ?_)
    · replace hf := hf.1 c17
      refine v_qload_n (r := (some y10)) (i := 2) dJ22_get_24 rfl rfl ?_
      replace hf := gR_e hf
      obtain ⟨w19, fs20, r18, hh21, hk22, hf⟩ := hf
      refine v_getf (T := TJ31) (ci := 21) 2 dJ22_get_25 q1131 rfl in_J31 (Nat.le_of_ble_eq_true rfl) (Or.inl rfl) hh21 hk22 ?_
      exact v_qret (r := r18) dJ22_get_28 rfl (Or.inl ⟨_, rfl⟩) ⟨_, rfl, hf⟩
    · replace hf := hf.2 c17
      refine v_qload_n (r := (some a0)) (i := 0) dJ22_get_19 rfl rfl ?_
      refine v_qload_n (r := (some y10)) (i := 2) dJ22_get_20 rfl rfl ?_
      replace hf := rv_e hf
      obtain ⟨w23, fs24, hh25, hf⟩ := hf
      refine V.addK0 ?_
      refine V.addN0 ?_
      refine v_callV (mc := 0) (ms := 0) 1 dJ22_get_21 (m_J22_afterNodeAccess hG hf) rfl hh25 rfl (lw_V q1659 q1503 q2863 q117 q1504) rfl (by decide +kernel) (by decide) rfl (cat_len (Nat.le_of_ble_eq_true rfl)) (kk_V fun h26 hg => ?_) (fun _ _ _ hx => hx.elim)
      replace hf := hg
      clear hg
      refine v_qload_n (r := (some y10)) (i := 2) dJ22_get_24 rfl rfl ?_
      replace hf := gR_e hf
      obtain ⟨w28, fs29, r27, hh30, hk31, hf⟩ := hf
      refine v_getf (T := TJ31) (ci := 21) 2 dJ22_get_25 q1131 rfl in_J31 (Nat.le_of_ble_eq_true rfl) (Or.inl rfl) hh30 hk31 ?_
      exact v_qret (r := r27) dJ22_get_28 rfl (Or.inl ⟨_, rfl⟩) ⟨_, rfl, hf⟩
  · replace hf := hf.1 e11
    subst e11
    refine v_null dJ22_get_10 ?_
    exact v_qret (r := none) dJ22_get_11 rfl (Or.inl ⟨_, rfl⟩) ⟨_, rfl, hf⟩
abbrev Y_J21_containsKey : Yt := (yJ21_containsKey, some (.boolean), 4, 108, [])
def f_J21_containsKey (G : Gt) (h : Hp) (k n : Nat) (t_0 : Option Nat) (r_1 : Option Nat) (K : Int32 → Hp → Prop) : Prop :=
rv h t_0 17 (dR G Y_J21_getNode cJ21_getNode 8 [va_rf t_0, va_rf r_1] h k n (fun r5 h4 k8 n9 =>
((r5 = none → K (0 : Int32) h4) ∧
(∀ y10, r5 = some y10 → K (1 : Int32) h4))) xN)
theorem m_J21_containsKey {G : Gt} {h : Hp} {mc ms : Nat} {a0 : Nat} {r_1 : Option Nat} {K : Int32 → Hp → Prop} (hG : Base G) (hA : 0 ≤ mc) (hB : 0 ≤ ms) (hf : f_J21_containsKey G h (mc - 0) (ms - 0) (some a0) r_1 K) : MM G Y_J21_containsKey cJ21_containsKey 2 mc ms [.ref a0, va_rf r_1] h (kI K) xN := by
  refine mm_of hG (by decide +kernel) rfl (ac_c rfl (ac_c (rf_cat _) ac_nil)) (Nat.le_of_ble_eq_true rfl) (fun E _ _ => ?_)
  obtain ⟨k, hk9⟩ : ∃ z, z = mc - 0 := ⟨_, rfl⟩
  obtain ⟨n, hn9⟩ : ∃ z, z = ms - 0 := ⟨_, rfl⟩
  rw [← hk9, ← hn9] at hf
  refine V.weak (k' := k + 0) (n' := n + 0) ?_ (by omega) (by omega)
  show V G E Y_J21_containsKey cJ21_containsKey 2 (QM G E (kI K) xN) h (k + 0) (n + 0) 0 [(0, .ref a0), (1, va_rf r_1)] []
  unfold f_J21_containsKey at hf
  refine v_qload_n (r := (some a0)) (i := 0) dJ21_containsKey_0 rfl rfl ?_
  refine v_qload_n (r := r_1) (i := 1) dJ21_containsKey_1 rfl rfl ?_
  replace hf := rv_e hf
  obtain ⟨w1, fs2, hh3, hf⟩ := hf
  obtain ⟨mc6, ms7, hkmc6, hnms7, hM⟩ := hf
  refine V.weak (k' := ((k - mc6) + 0) + mc6) (n' := ((n - ms7) + 0) + ms7) ?_ (by omega) (by omega)
  refine v_callU 1 dJ21_containsKey_2 hM rfl hh3 rfl (lw_U q1533 q1535 q1536 q1534 q116 q1537) rfl rfl (by decide +kernel) (by decide) rfl (cat_len (Nat.le_of_ble_eq_true rfl)) (kk_R fun r5 h4 hg => ?_) (fun _ _ _ hx => hx.elim)
  have hf := hg
  clear hg
  refine v_ifnull 12 dJ21_containsKey_5 (by decide) (fun e11 => ?_) (fun y10 e11 => ?_)
  · replace hf := hf.1 e11
    subst e11
    refine v_iconst (v := 0) dJ21_containsKey_12 (by decide) ?_
    exact v_zret dJ21_containsKey_13 rfl (by decide) ⟨_, rfl, hf⟩
  · replace hf := hf.2 y10 e11
    subst e11
    refine v_iconst (v := 1) dJ21_containsKey_8 (by decide) ?_
    refine v_goto 13 dJ21_containsKey_9 (by decide) ?_
    exact v_zret dJ21_containsKey_13 rfl (by decide) ⟨_, rfl, hf⟩
