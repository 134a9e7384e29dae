/-! walks printed by tools/mkwalk.py -/
set_option maxRecDepth 100000
abbrev Y_J1_init : Yt := (yJ1_init, none, 2, 60, [])
def f_J1_init (G : Gt) (h : Hp) (t_0 : Option Nat) (K : Hp → Prop) : Prop :=
f_J0_init G h t_0 (fun h1 =>
pF h1 t_0 10 0 (.int (0 : Int32)) fun h4 =>
K h4)
theorem m_J1_init {G : Gt} {h : Hp} {a0 : Nat} {K : Hp → Prop} (hG : Base G) (hf : f_J1_init G h (some a0) K) : MM G Y_J1_init cJ1_init 1 0 0 [.ref a0] h (kV K) xN := by
  refine mm_of hG (by decide +kernel) rfl (ac_c rfl ac_nil) (Nat.le_of_ble_eq_true rfl) (fun E _ _ => ?_)
  show V G E Y_J1_init cJ1_init 1 (QM G E (kV K) xN) h 0 0 0 [(0, .ref a0)] []
  unfold f_J1_init at hf
  refine v_qload_n (r := (some a0)) (i := 0) dJ1_init_0 rfl rfl ?_
  refine V.addK0 ?_
  refine V.addN0 ?_
  refine v_callI (mc := 0) (ms := 0) 0 dJ1_init_1 (m_J0_init hG hf) rfl (lw_meth q165) rfl q90 q163 q164 rfl rfl (by decide +kernel) (by decide) rfl (cat_len (Nat.le_of_ble_eq_true rfl)) (kk_V fun h1 hg => ?_) (fun _ _ _ hx => hx.elim)
  replace hf := hg
  clear hg
  refine v_qload_n (r := (some a0)) (i := 0) dJ1_init_4 rfl rfl ?_
  refine v_iconst (v := 0) dJ1_init_5 (by decide) ?_
  replace hf := pF_e hf
  obtain ⟨fs2, hh3, hf⟩ := hf
  refine v_putf (v := .int (0 : Int32)) (T := TJ2) (ci := 10) (ty := .int) 0 dJ1_init_6 q175 rfl in_J2 tyJ2 tyJ2_ok nmJ2 (Nat.le_of_ble_eq_true rfl) (Or.inl rfl) rfl (by decide +kernel) rfl rfl hh3 ?_
  obtain ⟨h4, eh4⟩ : ∃ z, z = hs h1 a0 (true, .inr (10, fs2.set 0 (.int (0 : Int32)))) := ⟨_, rfl⟩
  try rw [← eh4] at hf
  rw [← eh4]
  exact v_vret dJ1_init_9 rfl ⟨rfl, hf⟩
abbrev Y_J2_init : Yt := (yJ2_init, none, 3, 80, [])
def f_J2_init (G : Gt) (h : Hp) (t_0 : Option Nat) (i_1 : Int32) (K : Hp → Prop) : Prop :=
f_J1_init G h t_0 (fun h1 =>
((i_1 ≤ 0 → ((¬ (i_1 = 0) → False) ∧
(i_1 = 0 → False))) ∧
(¬ (i_1 ≤ 0) → nD i_1 16 fun N6 =>
nA h1 3 (N6, .inr (.inr (.inr (.inr (fun _ => none))))) fun a4 h5 =>
pF h5 t_0 10 1 (.ref a4) fun h9 =>
K h9)))
theorem m_J2_init {G : Gt} {h : Hp} {a0 : Nat} {i_1 : Int32} {K : Hp → Prop} (hG : Base G) (hf : f_J2_init G h (some a0) i_1 K) : MM G Y_J2_init cJ2_init 2 1 16 [.ref a0, .int i_1] h (kV K) xN := by
  refine mm_of hG (by decide +kernel) rfl (ac_c rfl (ac_c rfl ac_nil)) (Nat.le_of_ble_eq_true rfl) (fun E _ _ => ?_)
  show V G E Y_J2_init cJ2_init 2 (QM G E (kV K) xN) h 1 16 0 [(0, .ref a0), (1, .int i_1)] []
  unfold f_J2_init at hf
  refine v_qload_n (r := (some a0)) (i := 0) dJ2_init_0 rfl rfl ?_
  refine V.addK0 ?_
  refine V.addN0 ?_
  refine v_callI (mc := 0) (ms := 0) 0 dJ2_init_1 (m_J1_init hG hf) rfl (lw_meth q162) rfl q91 q160 q161 rfl rfl (by decide +kernel) (by decide) rfl (cat_len (Nat.le_of_ble_eq_true rfl)) (kk_V fun h1 hg => ?_) (fun _ _ _ hx => hx.elim)
  replace hf := hg
  clear hg
  refine v_iload_n (i := 1) dJ2_init_4 rfl rfl ?_
  refine v_if_le 19 dJ2_init_5 (by decide) (fun c2 => ?_) (fun c2 => ?_)
  · replace hf := hf.1 c2
    refine v_iload_n (i := 1) dJ2_init_19 rfl rfl ?_
    refine v_if_ne 33 dJ2_init_20 (by decide) (fun c3 => ?_) (fun c3 => ?_)
    · replace hf := hf.1 c3
      exact hf.elim
    · replace hf := hf.2 c3
      refine v_qload_n (r := (some a0)) (i := 0) dJ2_init_23 rfl rfl ?_
      exact hf.elim
  · replace hf := hf.2 c2
    refine v_qload_n (r := (some a0)) (i := 0) dJ2_init_8 rfl rfl ?_
    refine v_iload_n (i := 1) dJ2_init_9 rfl rfl ?_
    obtain ⟨N6, hzN6, hbN6, hf⟩ := hf
    refine V.weakN (b := 16) hbN6 ?_
    refine v_newq (t := 3) (N := N6) dJ2_init_10 (Nat.le_of_ble_eq_true rfl) rfl q167 q168 hzN6 (Nat.le_trans (Nat.mul_le_mul_right _ hbN6) (Nat.le_of_ble_eq_true rfl)) (fun a4 ha4 => ?_)
    replace hf := hf a4 ha4
    obtain ⟨h5, eh5⟩ : ∃ z, z = hs h1 a4 (true, .inl (3, (N6, .inr (.inr (.inr (.inr (fun _ => none))))))) := ⟨_, rfl⟩
    try rw [← eh5] at hf
    rw [← eh5]
    replace hf := pF_e hf
    obtain ⟨fs7, hh8, hf⟩ := hf
    refine v_putf (v := .ref a4) (T := TJ2) (ci := 10) (ty := .array (.object "java/lang/Object")) 1 dJ2_init_13 q171 rfl in_J2 tyJ2 tyJ2_ok nmJ2 (Nat.le_of_ble_eq_true rfl) (Or.inl rfl) rfl (by decide +kernel) rfl rfl hh8 ?_
    obtain ⟨h9, eh9⟩ : ∃ z, z = hs h5 a0 (true, .inr (10, fs7.set 1 (.ref a4))) := ⟨_, rfl⟩
    try rw [← eh9] at hf
    rw [← eh9]
    refine v_goto 60 dJ2_init_16 (by decide) ?_
    exact v_vret dJ2_init_60 rfl ⟨rfl, hf⟩
abbrev Y_X1_init : Yt := (yX1_init, none, 4, 101, [])
def f_X1_init (G : Gt) (h : Hp) (t_0 : Option Nat) (K : Hp → Prop) : Prop :=
nO h 10 [.int 0, .null, .int 0] fun a1 h2 =>
f_J2_init G h2 (some a1) (10 : Int32) (fun h3 =>
pF h3 t_0 1 0 (.ref a1) fun h6 =>
nO h6 10 [.int 0, .null, .int 0] fun a7 h8 =>
f_J2_init G h8 (some a7) (16 : Int32) (fun h9 =>
pF h9 t_0 1 1 (.ref a7) fun h12 =>
nA h12 0 (3, .inl (fun _ => 0)) fun a13 h14 =>
pF h14 t_0 1 2 (.ref a13) fun h17 =>
K h17))
theorem m_X1_init {G : Gt} {h : Hp} {a0 : Nat} {K : Hp → Prop} (hG : Base G) (hf : f_X1_init G h (some a0) K) : MM G Y_X1_init cX1_init 1 5 41 [.ref a0] h (kV K) xN := by
  refine mm_of hG (by decide +kernel) rfl (ac_c rfl ac_nil) (Nat.le_of_ble_eq_true rfl) (fun E _ _ => ?_)
  show V G E Y_X1_init cX1_init 1 (QM G E (kV K) xN) h 5 41 0 [(0, .ref a0)] []
  unfold f_X1_init at hf
  refine v_qload_n (r := (some a0)) (i := 0) dX1_init_0 rfl rfl ?_
  refine v_objInit dX1_init_1 q152 q153 q154 (cat_len (Nat.le_of_ble_eq_true rfl)) (Nat.le_of_ble_eq_true rfl) (Nat.le_of_ble_eq_true rfl) ?_
  refine v_qload_n (r := (some a0)) (i := 0) dX1_init_4 rfl rfl ?_
  refine v_new (N := 3) (fs := [.int 0, .null, .int 0]) (ci := 10) dX1_init_5 q155 q156 q92 rfl in_J2 tyJ2 tyJ2_ok rfl (fun a1 ha1 => ?_)
  replace hf := hf a1 ha1
  obtain ⟨h2, eh2⟩ : ∃ z, z = hs h a1 (true, .inr (10, [.int 0, .null, .int 0])) := ⟨_, rfl⟩
  try rw [← eh2] at hf
  rw [← eh2]
  refine v_dup dX1_init_8 rfl ?_
  refine v_bipush (v := 10) dX1_init_9 (by decide) ?_
  refine v_callI (mc := 1) (ms := 16) 1 dX1_init_11 (m_J2_init hG hf) rfl (lw_meth q159) rfl q92 q157 q158 rfl rfl (by decide +kernel) (by decide) rfl (cat_len (Nat.le_of_ble_eq_true rfl)) (kk_V fun h3 hg => ?_) (fun _ _ _ hx => hx.elim)
  replace hf := hg
  clear hg
  replace hf := pF_e hf
  obtain ⟨fs4, hh5, hf⟩ := hf
  refine v_putfF (v := .ref a1) (T := TX1) (ci := 1) (ty := .object "java/util/ArrayList") 0 dX1_init_14 q188 rfl in_X1 tyX1 tyX1_ok nmX1 (Nat.le_of_ble_eq_true rfl) (Or.inl rfl) rfl rfl rfl (by decide +kernel) rfl rfl hh5 ?_
  obtain ⟨h6, eh6⟩ : ∃ z, z = hs h3 a0 (true, .inr (1, fs4.set 0 (.ref a1))) := ⟨_, rfl⟩
  try rw [← eh6] at hf
  rw [← eh6]
  refine v_qload_n (r := (some a0)) (i := 0) dX1_init_17 rfl rfl ?_
  refine v_new (N := 3) (fs := [.int 0, .null, .int 0]) (ci := 10) dX1_init_18 q155 q156 q92 rfl in_J2 tyJ2 tyJ2_ok rfl (fun a7 ha7 => ?_)
  replace hf := hf a7 ha7
  obtain ⟨h8, eh8⟩ : ∃ z, z = hs h6 a7 (true, .inr (10, [.int 0, .null, .int 0])) := ⟨_, rfl⟩
  try rw [← eh8] at hf
  rw [← eh8]
  refine v_dup dX1_init_21 rfl ?_
  refine v_bipush (v := 16) dX1_init_22 (by decide) ?_
  refine v_callI (mc := 1) (ms := 16) 1 dX1_init_24 (m_J2_init hG hf) rfl (lw_meth q159) rfl q92 q157 q158 rfl rfl (by decide +kernel) (by decide) rfl (cat_len (Nat.le_of_ble_eq_true rfl)) (kk_V fun h9 hg => ?_) (fun _ _ _ hx => hx.elim)
  replace hf := hg
  clear hg
  replace hf := pF_e hf
  obtain ⟨fs10, hh11, hf⟩ := hf
  refine v_putfF (v := .ref a7) (T := TX1) (ci := 1) (ty := .object "java/util/ArrayList") 1 dX1_init_27 q190 rfl in_X1 tyX1 tyX1_ok nmX1 (Nat.le_of_ble_eq_true rfl) (Or.inl rfl) rfl rfl rfl (by decide +kernel) rfl rfl hh11 ?_
  obtain ⟨h12, eh12⟩ : ∃ z, z = hs h9 a0 (true, .inr (1, fs10.set 1 (.ref a7))) := ⟨_, rfl⟩
  try rw [← eh12] at hf
  rw [← eh12]
  refine v_qload_n (r := (some a0)) (i := 0) dX1_init_30 rfl rfl ?_
  refine v_iconst (v := 3) dX1_init_31 (by decide) ?_
  refine v_newa (t := 0) (N := 3) (x := (3, .inl (fun _ => 0))) dX1_init_32 (Nat.le_of_ble_eq_true rfl) rfl q219 (fun _ => rfl) rfl (Nat.le_of_ble_eq_true rfl) (fun a13 ha13 => ?_)
  replace hf := hf a13 ha13
  obtain ⟨h14, eh14⟩ : ∃ z, z = hs h12 a13 (true, .inl (0, (3, .inl (fun _ => 0)))) := ⟨_, rfl⟩
  try rw [← eh14] at hf
  rw [← eh14]
  replace hf := pF_e hf
  obtain ⟨fs15, hh16, hf⟩ := hf
  refine v_putfF (v := .ref a13) (T := TX1) (ci := 1) (ty := .array (.int)) 2 dX1_init_34 q192 rfl in_X1 tyX1 tyX1_ok nmX1 (Nat.le_of_ble_eq_true rfl) (Or.inl rfl) rfl rfl rfl (by decide +kernel) rfl rfl hh16 ?_
  obtain ⟨h17, eh17⟩ : ∃ z, z = hs h14 a0 (true, .inr (1, fs15.set 2 (.ref a13))) := ⟨_, rfl⟩
  try rw [← eh17] at hf
  rw [← eh17]
  exact v_vret dX1_init_37 rfl ⟨rfl, hf⟩
abbrev Y_J8_hasNext : Yt := (yJ8_hasNext, some (.boolean), 1, 40, [])
def f_J8_hasNext (G : Gt) (h : Hp) (t_0 : Option Nat) (K : Int32 → Hp → Prop) : Prop :=
gI h t_0 11 0 fun i1 =>
gR h t_0 11 3 fun r6 =>
gI h r6 10 2 fun i11 =>
((i1 = i11 → K (0 : Int32) h) ∧
(¬ (i1 = i11) → K (1 : Int32) h))
theorem m_J8_hasNext {G : Gt} {h : Hp} {a0 : Nat} {K : Int32 → Hp → Prop} (hG : Base G) (hf : f_J8_hasNext G h (some a0) K) : MM G Y_J8_hasNext cJ8_hasNext 1 0 0 [.ref a0] h (kI K) xN := by
  refine mm_of hG (by decide +kernel) rfl (ac_c rfl ac_nil) (Nat.le_of_ble_eq_true rfl) (fun E _ _ => ?_)
  show V G E Y_J8_hasNext cJ8_hasNext 1 (QM G E (kI K) xN) h 0 0 0 [(0, .ref a0)] []
  unfold f_J8_hasNext at hf
  refine v_qload_n (r := (some a0)) (i := 0) dJ8_hasNext_0 rfl rfl ?_
  replace hf := gI_e hf
  obtain ⟨w2, fs3, i1, hh4, hk5, hf⟩ := hf
  refine v_getf (T := TJ8) (ci := 11) 0 dJ8_hasNext_1 q325 rfl in_J8 (Nat.le_of_ble_eq_true rfl) (Or.inl rfl) hh4 hk5 ?_
  refine v_qload_n (r := (some a0)) (i := 0) dJ8_hasNext_4 rfl rfl ?_
  replace hf := gR_e hf
  obtain ⟨w7, fs8, r6, hh9, hk10, hf⟩ := hf
  refine v_getf (T := TJ8) (ci := 11) 3 dJ8_hasNext_5 q328 rfl in_J8 (Nat.le_of_ble_eq_true rfl) (Or.inl rfl) hh9 hk10 ?_
  obtain ⟨a12, rfl⟩ := gI_s hf
  replace hf := gI_e hf
  obtain ⟨w13, fs14, i11, hh15, hk16, hf⟩ := hf
  refine v_getfN (T := TJ2) (ci := 10) 2 dJ8_hasNext_8 q173 rfl in_J2 (Nat.le_of_ble_eq_true rfl) (Or.inl rfl) hh15 hk16 ?_
  refine v_icmp_eq 18 dJ8_hasNext_11 (by decide) (fun c17 => ?_) (fun c17 => ?_)
  · replace hf := hf.1 c17
    refine v_iconst (v := 0) dJ8_hasNext_18 (by decide) ?_
    exact v_zret dJ8_hasNext_19 rfl (by decide) ⟨_, rfl, hf⟩
  · replace hf := hf.2 c17
    refine v_iconst (v := 1) dJ8_hasNext_14 (by decide) ?_
    refine v_goto 19 dJ8_hasNext_15 (by decide) ?_
    exact v_zret dJ8_hasNext_19 rfl (by decide) ⟨_, rfl, hf⟩
abbrev Y_J8_checkForComodification : Yt := (yJ8_checkForComodification, none, 1, 40, [])
def f_J8_checkForComodification (G : Gt) (h : Hp) (t_0 : Option Nat) (K : Hp → Prop) : Prop :=
gR h t_0 11 3 fun r1 =>
gI h r1 10 0 fun i6 =>
gI h t_0 11 2 fun i12 =>
((i6 = i12 → K h) ∧
(¬ (i6 = i12) → False))
theorem m_J8_checkForComodification {G : Gt} {h : Hp} {a0 : Nat} {K : Hp → Prop} (hG : Base G) (hf : f_J8_checkForComodification G h (some a0) K) : MM G Y_J8_checkForComodification cJ8_checkForComodification 1 0 0 [.ref a0] h (kV K) xN := by
  refine mm_of hG (by decide +kernel) rfl (ac_c rfl ac_nil) (Nat.le_of_ble_eq_true rfl) (fun E _ _ => ?_)
  show V G E Y_J8_checkForComodification cJ8_checkForComodification 1 (QM G E (kV K) xN) h 0 0 0 [(0, .ref a0)] []
  unfold f_J8_checkForComodification at hf
  refine v_qload_n (r := (some a0)) (i := 0) dJ8_checkForComodification_0 rfl rfl ?_
  replace hf := gR_e hf
  obtain ⟨w2, fs3, r1, hh4, hk5, hf⟩ := hf
  refine v_getf (T := TJ8) (ci := 11) 3 dJ8_checkForComodification_1 q328 rfl in_J8 (Nat.le_of_ble_eq_true rfl) (Or.inl rfl) hh4 hk5 ?_
  obtain ⟨a7, rfl⟩ := gI_s hf
  replace hf := gI_e hf
  obtain ⟨w8, fs9, i6, hh10, hk11, hf⟩ := hf
  refine v_getf (T := TJ2) (ci := 10) 0 dJ8_checkForComodification_4 q176 rfl in_J2 (Nat.le_of_ble_eq_true rfl) (Or.inr q177) hh10 hk11 ?_
  refine v_qload_n (r := (some a0)) (i := 0) dJ8_checkForComodification_7 rfl rfl ?_
  replace hf := gI_e hf
  obtain ⟨w13, fs14, i12, hh15, hk16, hf⟩ := hf
  refine v_getf (T := TJ8) (ci := 11) 2 dJ8_checkForComodification_8 q327 rfl in_J8 (Nat.le_of_ble_eq_true rfl) (Or.inl rfl) hh15 hk16 ?_
  refine v_icmp_eq 22 dJ8_checkForComodification_11 (by decide) (fun c17 => ?_) (fun c17 => ?_)
  · replace hf := hf.1 c17
    exact v_vret dJ8_checkForComodification_22 rfl ⟨rfl, hf⟩
  · replace hf := hf.2 c17
    exact hf.elim
abbrev Y_J8_next : Yt := (yJ8_next, some (.object "java/lang/Object"), 2, 60, [])
def f_J8_next (G : Gt) (h : Hp) (t_0 : Option Nat) (K : Option Nat → Hp → Prop) : Prop :=
rv h t_0 11 (f_J8_checkForComodification G h t_0 (fun h4 =>
gI h4 t_0 11 0 fun i5 =>
gR h4 t_0 11 3 fun r10 =>
gI h4 r10 10 2 fun i15 =>
((i5 < i15 → gR h4 t_0 11 3 fun r22 =>
gR h4 r22 10 1 fun r27 =>
aL h4 r27 fun i38 =>
((i5 < i38 → pF h4 t_0 11 0 (.int (i5 + (1 : Int32))) fun h42 =>
pF h42 t_0 11 1 (.int i5) fun h45 =>
aQ h45 r27 i5 fun r53 =>
K r53 h45) ∧
(¬ (i5 < i38) → False))) ∧
(¬ (i5 < i15) → False))))
theorem m_J8_next {G : Gt} {h : Hp} {a0 : Nat} {K : Option Nat → Hp → Prop} (hG : Base G) (hf : f_J8_next G h (some a0) K) : MM G Y_J8_next cJ8_next 3 0 0 [.ref a0] h (kR K) xN := by
  refine mm_of hG (by decide +kernel) rfl (ac_c rfl ac_nil) (Nat.le_of_ble_eq_true rfl) (fun E _ _ => ?_)
  show V G E Y_J8_next cJ8_next 3 (QM G E (kR K) xN) h 0 0 0 [(0, .ref a0)] []
  unfold f_J8_next at hf
  refine v_qload_n (r := (some a0)) (i := 0) dJ8_next_0 rfl rfl ?_
  replace hf := rv_e hf
  obtain ⟨w1, fs2, hh3, hf⟩ := hf
  refine V.addK0 ?_
  refine V.addN0 ?_
  refine v_callV (mc := 0) (ms := 0) 0 dJ8_next_1 (m_J8_checkForComodification hG hf) rfl hh3 rfl (lw_V q369 q370 q371 q99 q372) rfl (by decide +kernel) (by decide) rfl (cat_len (Nat.le_of_ble_eq_true rfl)) (kk_V fun h4 hg => ?_) (fun _ _ _ hx => hx.elim)
  replace hf := hg
  clear hg
  refine v_qload_n (r := (some a0)) (i := 0) dJ8_next_4 rfl rfl ?_
  replace hf := gI_e hf
  obtain ⟨w6, fs7, i5, hh8, hk9, hf⟩ := hf
  refine v_getf (T := TJ8) (ci := 11) 0 dJ8_next_5 q325 rfl in_J8 (Nat.le_of_ble_eq_true rfl) (Or.inl rfl) hh8 hk9 ?_
  refine v_istore_n (i := 1) (lv' := [(0, va_rf (some a0)), (1, .int i5)]) dJ8_next_8 rfl (Nat.le_of_ble_eq_true rfl) rfl rfl ?_
  refine v_iload_n (i := 1) dJ8_next_9 rfl rfl ?_
  refine v_qload_n (r := (some a0)) (i := 0) dJ8_next_10 rfl rfl ?_
  replace hf := gR_e hf
  obtain ⟨w11, fs12, r10, hh13, hk14, hf⟩ := hf
  refine v_getf (T := TJ8) (ci := 11) 3 dJ8_next_11 q328 rfl in_J8 (Nat.le_of_ble_eq_true rfl) (Or.inl rfl) hh13 hk14 ?_
  obtain ⟨a16, rfl⟩ := gI_s hf
  replace hf := gI_e hf
  obtain ⟨w17, fs18, i15, hh19, hk20, hf⟩ := hf
  refine v_getfN (T := TJ2) (ci := 10) 2 dJ8_next_14 q173 rfl in_J2 (Nat.le_of_ble_eq_true rfl) (Or.inl rfl) hh19 hk20 ?_
  refine v_icmp_lt 28 dJ8_next_17 (by decide) (fun c21 => ?_) (fun c21 => ?_)
  · replace hf := hf.1 c21
    refine v_qload_n (r := (some a0)) (i := 0) dJ8_next_28 rfl rfl ?_
    replace hf := gR_e hf
    obtain ⟨w23, fs24, r22, hh25, hk26, hf⟩ := hf
    refine v_getf (T := TJ8) (ci := 11) 3 dJ8_next_29 q328 rfl in_J8 (Nat.le_of_ble_eq_true rfl) (Or.inl rfl) hh25 hk26 ?_
    obtain ⟨a28, rfl⟩ := gR_s hf
    replace hf := gR_e hf
    obtain ⟨w29, fs30, r27, hh31, hk32, hf⟩ := hf
    refine v_getf (T := TJ2) (ci := 10) 1 dJ8_next_32 q172 rfl in_J2 (Nat.le_of_ble_eq_true rfl) (Or.inl rfl) hh31 hk32 ?_
    refine v_qstore_n (i := 2) (r := r27) (lv' := [(0, va_rf (some a0)), (1, .int i5), (2, va_rf r27)]) dJ8_next_35 rfl (Nat.le_of_ble_eq_true rfl) rfl rfl ?_
    refine v_iload_n (i := 1) dJ8_next_36 rfl rfl ?_
    refine v_qload_n (r := r27) (i := 2) dJ8_next_37 rfl rfl ?_
    obtain ⟨a33, rfl⟩ := aL_s hf
    replace hf := aL_e hf
    obtain ⟨w34, t35, x36, hh37, i38, ei38, hf⟩ := hf
    refine v_alen dJ8_next_38 hh37 ei38.symm ?_
    refine v_icmp_lt 50 dJ8_next_39 (by decide) (fun c39 => ?_) (fun c39 => ?_)
    · replace hf := hf.1 c39
      refine v_qload_n (r := (some a0)) (i := 0) dJ8_next_50 rfl rfl ?_
      refine v_iload_n (i := 1) dJ8_next_51 rfl rfl ?_
      refine v_iconst (v := 1) dJ8_next_52 (by decide) ?_
      refine v_iadd dJ8_next_53 ?_
      replace hf := pF_e hf
      obtain ⟨fs40, hh41, hf⟩ := hf
      refine v_putf (v := .int (i5 + (1 : Int32))) (T := TJ8) (ci := 11) (ty := .int) 0 dJ8_next_54 q325 rfl in_J8 tyJ8 tyJ8_ok nmJ8 (Nat.le_of_ble_eq_true rfl) (Or.inl rfl) rfl (by decide +kernel) rfl rfl hh41 ?_
      obtain ⟨h42, eh42⟩ : ∃ z, z = hs h4 a0 (true, .inr (11, fs40.set 0 (.int (i5 + (1 : Int32))))) := ⟨_, rfl⟩
      try rw [← eh42] at hf
      rw [← eh42]
      refine v_qload_n (r := (some a33)) (i := 2) dJ8_next_57 rfl rfl ?_
      refine v_qload_n (r := (some a0)) (i := 0) dJ8_next_58 rfl rfl ?_
      refine v_iload_n (i := 1) dJ8_next_59 rfl rfl ?_
      refine v_dup_x1 dJ8_next_60 rfl (rf_cat _) ?_
      replace hf := pF_e hf
      obtain ⟨fs43, hh44, hf⟩ := hf
      refine v_putf (v := .int i5) (T := TJ8) (ci := 11) (ty := .int) 1 dJ8_next_61 q326 rfl in_J8 tyJ8 tyJ8_ok nmJ8 (Nat.le_of_ble_eq_true rfl) (Or.inl rfl) rfl (by decide +kernel) rfl rfl hh44 ?_
      obtain ⟨h45, eh45⟩ : ∃ z, z = hs h42 a0 (true, .inr (11, fs43.set 1 (.int i5))) := ⟨_, rfl⟩
      try rw [← eh45] at hf
      rw [← eh45]
      replace hf := aQ_e hf
      obtain ⟨w46, t47, N48, f49, hh50, ht51, hi52, r53, er53, hf⟩ := hf
      refine v_aald dJ8_next_64 ht51 hh50 hi52 ?_
      rw [← er53]
      exact v_qret (r := r53) dJ8_next_65 rfl (Or.inl ⟨_, rfl⟩) ⟨_, rfl, hf⟩
    · replace hf := hf.2 c39
      exact hf.elim
  · replace hf := hf.2 c21
    exact hf.elim
abbrev Y_X1_copy : Yt := (yX1_copy, some (.object "ParityMaze$Maze"), 5, 121, [])
def g_X1_copy_0 (G : Gt) (E : Ev) (h : Hp) (k n : Nat) (a0 : Nat) (K : Option Nat → Hp → Prop) : Prop :=
nO h 1 [.null, .null, .null, .int 0, .int 0, .int 0, .int 0, .int 0] fun a1 h2 =>
f_X1_init G h2 (some a1) (fun h3 =>
gR h3 (some a0) 1 0 fun r4 =>
rv h3 r4 10 (f_J2_iterator G h3 r4 (fun r14 h13 =>
V G E Y_X1_copy cX1_copy 4 (QM G E (kR K) xN) h13 k n 16 [(0, .ref a0), (1, .ref a1), (2, va_rf r14)] [])))
theorem s_X1_copy_0 {G : Gt} {E : Ev} {h : Hp} {k0 n0 : Nat} {a0 : Nat} {K : Option Nat → Hp → Prop} (hG : Base G) (hA : 7 ≤ k0) (hB : 53 ≤ n0) (hf : g_X1_copy_0 G E h (k0 - 7) (n0 - 53) a0 K) : V G E Y_X1_copy cX1_copy 4 (QM G E (kR K) xN) h k0 n0 0 [(0, .ref a0)] [] := by
  obtain ⟨k, hk9⟩ : ∃ z, z = k0 - 7 := ⟨_, rfl⟩
  obtain ⟨n, hn9⟩ : ∃ z, z = n0 - 53 := ⟨_, rfl⟩
  rw [← hk9, ← hn9] at hf
  refine V.weak (k' := k + 7) (n' := n + 53) ?_ (by omega) (by omega)
  unfold g_X1_copy_0 at hf
  refine v_new (N := 8) (fs := [.null, .null, .null, .int 0, .int 0, .int 0, .int 0, .int 0]) (ci := 1) dX1_copy_0 q313 q148 q89 rfl in_X1 tyX1 tyX1_ok rfl (fun a1 ha1 => ?_)
  replace hf := hf a1 ha1
  obtain ⟨h2, eh2⟩ : ∃ z, z = hs h a1 (true, .inr (1, [.null, .null, .null, .int 0, .int 0, .int 0, .int 0, .int 0])) := ⟨_, rfl⟩
  try rw [← eh2] at hf
  rw [← eh2]
  refine v_dup dX1_copy_3 rfl ?_
  refine v_callI (mc := 5) (ms := 41) 0 dX1_copy_4 (m_X1_init hG hf) rfl (lw_meth q151) rfl q89 q314 q150 rfl rfl (by decide +kernel) (by decide) rfl (cat_len (Nat.le_of_ble_eq_true rfl)) (kk_V fun h3 hg => ?_) (fun _ _ _ hx => hx.elim)
  replace hf := hg
  clear hg
  refine v_astore_n (i := 1) (lv' := [(0, .ref a0), (1, .ref a1)]) dX1_copy_7 rfl (Nat.le_of_ble_eq_true rfl) rfl rfl ?_
  refine v_aload_n (i := 0) dX1_copy_8 rfl rfl ?_
  replace hf := gR_e hf
  obtain ⟨w5, fs6, r4, hh7, hk8, hf⟩ := hf
  refine v_getf (T := TX1) (ci := 1) 0 dX1_copy_9 q188 rfl in_X1 (Nat.le_of_ble_eq_true rfl) (Or.inl rfl) hh7 hk8 ?_
  obtain ⟨a9, rfl⟩ := rv_s hf
  replace hf := rv_e hf
  obtain ⟨w10, fs11, hh12, hf⟩ := hf
  refine v_callV (mc := 1) (ms := 4) 0 dX1_copy_12 (m_J2_iterator hG hf) rfl hh12 rfl (lw_V q315 q316 q317 q92 q318) rfl (by decide +kernel) (by decide) rfl (cat_len (Nat.le_of_ble_eq_true rfl)) (kk_R fun r14 h13 hg => ?_) (fun _ _ _ hx => hx.elim)
  replace hf := hg
  clear hg
  refine v_qstore_n (i := 2) (r := r14) (lv' := [(0, .ref a0), (1, .ref a1), (2, va_rf r14)]) dX1_copy_15 rfl (Nat.le_of_ble_eq_true rfl) rfl rfl ?_
  exact V.weak hf (by omega) (by omega)
def g_X1_copy_16 (G : Gt) (E : Ev) (h : Hp) (k n : Nat) (a0 : Nat) (r_1 : Option Nat) (r_2 : Option Nat) (K : Option Nat → Hp → Prop) : Prop :=
rv h r_2 11 (f_J8_hasNext G h r_2 (fun i6 h5 =>
((i6 = 0 → gR h5 (some a0) 1 1 fun r8 =>
rv h5 r8 10 (f_J2_iterator G h5 r8 (fun r18 h17 =>
V G E Y_X1_copy cX1_copy 4 (QM G E (kR K) xN) h17 k n 58 [(0, .ref a0), (1, va_rf r_1), (2, va_rf r18)] []))) ∧
(¬ (i6 = 0) → rv h5 r_2 11 (f_J8_next G h5 r_2 (fun r23 h22 =>
(oc h22 r23 3 ∧ gR h22 r_1 1 0 fun r24 =>
rv h22 r23 3 (dR G Y_X3_copy cX3_copy 3 [va_rf r23] h22 k n (fun r35 h34 k38 n39 =>
rv h34 r24 10 (f_J2_add G h34 r24 r35 (fun i45 h44 =>
V G E Y_X1_copy cX1_copy 4 (QM G E (kR K) xN) h44 k38 n39 16 [(0, .ref a0), (1, va_rf r_1), (2, va_rf r_2)] []))) xN))))))))
theorem s_X1_copy_16 {G : Gt} {E : Ev} {h : Hp} {k0 n0 : Nat} {a0 : Nat} {r_1 : Option Nat} {r_2 : Option Nat} {K : Option Nat → Hp → Prop} (hG : Base G) (hA : 1 ≤ k0) (hB : 4 ≤ n0) (hf : g_X1_copy_16 G E h (k0 - 1) (n0 - 4) a0 r_1 r_2 K) : V G E Y_X1_copy cX1_copy 4 (QM G E (kR K) xN) h k0 n0 16 [(0, .ref a0), (1, va_rf r_1), (2, va_rf r_2)] [] := by
  obtain ⟨k, hk9⟩ : ∃ z, z = k0 - 1 := ⟨_, rfl⟩
  obtain ⟨n, hn9⟩ : ∃ z, z = n0 - 4 := ⟨_, rfl⟩
  rw [← hk9, ← hn9] at hf
  refine V.weak (k' := k + 1) (n' := n + 4) ?_ (by omega) (by omega)
  unfold g_X1_copy_16 at hf
  refine v_qload_n (r := r_2) (i := 2) dX1_copy_16 rfl rfl ?_
  obtain ⟨a1, rfl⟩ := rv_s hf
  replace hf := rv_e hf
  obtain ⟨w2, fs3, hh4, hf⟩ := hf
  refine V.addK0 ?_
  refine V.addN0 ?_
  refine v_callF (mc := 0) (ms := 0) 0 dX1_copy_17 (m_J8_hasNext hG hf) rfl hh4 rfl (lw_F q339 q343 q345 q99 q347) (fun C9 => v_Fw C9 (by decide) q341 q340 q346 q344 q342) rfl (by decide +kernel) (by decide) rfl (cat_len (Nat.le_of_ble_eq_true rfl)) (kk_I fun i6 h5 hg => ?_) (fun _ _ _ hx => hx.elim)
  replace hf := hg
  clear hg
  refine v_if_eq 50 dX1_copy_22 (by decide) (fun c7 => ?_) (fun c7 => ?_)
  · replace hf := hf.1 c7
    refine v_aload_n (i := 0) dX1_copy_50 rfl rfl ?_
    replace hf := gR_e hf
    obtain ⟨w9, fs10, r8, hh11, hk12, hf⟩ := hf
    refine v_getf (T := TX1) (ci := 1) 1 dX1_copy_51 q190 rfl in_X1 (Nat.le_of_ble_eq_true rfl) (Or.inl rfl) hh11 hk12 ?_
    obtain ⟨a13, rfl⟩ := rv_s hf
    replace hf := rv_e hf
    obtain ⟨w14, fs15, hh16, hf⟩ := hf
    refine v_callV (mc := 1) (ms := 4) 0 dX1_copy_54 (m_J2_iterator hG hf) rfl hh16 rfl (lw_V q315 q316 q317 q92 q318) rfl (by decide +kernel) (by decide) rfl (cat_len (Nat.le_of_ble_eq_true rfl)) (kk_R fun r18 h17 hg => ?_) (fun _ _ _ hx => hx.elim)
    replace hf := hg
    clear hg
    refine v_qstore_n (i := 2) (r := r18) (lv' := [(0, .ref a0), (1, va_rf r_1), (2, va_rf r18)]) dX1_copy_57 rfl (Nat.le_of_ble_eq_true rfl) rfl rfl ?_
    exact V.weak hf (by omega) (by omega)
  · replace hf := hf.2 c7
    refine v_qload_n (r := (some a1)) (i := 2) dX1_copy_25 rfl rfl ?_
    replace hf := rv_e hf
    obtain ⟨w19, fs20, hh21, hf⟩ := hf
    refine V.addK0 ?_
    refine V.addN0 ?_
    refine v_callF (mc := 0) (ms := 0) 0 dX1_copy_26 (m_J8_next hG hf) rfl hh21 rfl (lw_F q361 q364 q366 q99 q368) (fun C9 => v_Fw C9 (by decide) q363 q362 q367 q365 q342) rfl (by decide +kernel) (by decide) rfl (cat_len (Nat.le_of_ble_eq_true rfl)) (kk_R fun r23 h22 hg => ?_) (fun _ _ _ hx => hx.elim)
    replace hf := hg
    clear hg
    obtain ⟨hoc, hf⟩ := hf
    refine v_castQS (r := r23) dX1_copy_31 q402 hoc rfl ?_
    refine v_qstore_n (i := 3) (r := r23) (lv' := [(0, .ref a0), (1, va_rf r_1), (2, va_rf (some a1)), (3, va_rf r23)]) dX1_copy_34 rfl (Nat.le_of_ble_eq_true rfl) rfl rfl ?_
    refine v_qload_n (r := r_1) (i := 1) dX1_copy_35 rfl rfl ?_
    obtain ⟨a25, rfl⟩ := gR_s hf
    replace hf := gR_e hf
    obtain ⟨w26, fs27, r24, hh28, hk29, hf⟩ := hf
    refine v_getf (T := TX1) (ci := 1) 0 dX1_copy_36 q188 rfl in_X1 (Nat.le_of_ble_eq_true rfl) (Or.inl rfl) hh28 hk29 ?_
    refine v_qload_n (r := r23) (i := 3) dX1_copy_39 rfl rfl ?_
    obtain ⟨a30, rfl⟩ := rv_s hf
    replace hf := rv_e hf
    obtain ⟨w31, fs32, hh33, hf⟩ := hf
    obtain ⟨mc36, ms37, hkmc36, hnms37, hM⟩ := hf
    refine V.weak (k' := ((k - mc36) + 0) + mc36) (n' := ((n - ms37) + 0) + ms37) ?_ (by omega) (by omega)
    refine v_callV 0 dX1_copy_40 hM rfl hh33 rfl (lw_V q403 q404 q405 q100 q406) rfl (by decide +kernel) (by decide) rfl (cat_len (Nat.le_of_ble_eq_true rfl)) (kk_R fun r35 h34 hg => ?_) (fun _ _ _ hx => hx.elim)
    have hf := hg
    clear hg
    obtain ⟨a40, rfl⟩ := rv_s hf
    replace hf := rv_e hf
    obtain ⟨w41, fs42, hh43, hf⟩ := hf
    refine V.addK0 ?_
    refine V.addN0 ?_
    refine v_callV (mc := 0) (ms := 0) 1 dX1_copy_43 (m_J2_add hG hf) rfl hh43 rfl (lw_V q422 q423 q424 q92 q425) rfl (by decide +kernel) (by decide) rfl (cat_len (Nat.le_of_ble_eq_true rfl)) (kk_I fun i45 h44 hg => ?_) (fun _ _ _ hx => hx.elim)
    replace hf := hg
    clear hg
    refine v_pop dX1_copy_46 rfl ?_
    refine v_goto 16 dX1_copy_47 (by decide) ?_
    refine V.lp (lv' := [(0, .ref a0), (1, va_rf (some a25)), (2, va_rf (some a1))]) [0, 1, 2] rfl ?_
    exact V.weak hf (by omega) (by omega)
def g_X1_copy_58 (G : Gt) (E : Ev) (h : Hp) (k n : Nat) (a0 : Nat) (r_1 : Option Nat) (r_2 : Option Nat) (K : Option Nat → Hp → Prop) : Prop :=
rv h r_2 11 (f_J8_hasNext G h r_2 (fun i6 h5 =>
((i6 = 0 → V G E Y_X1_copy cX1_copy 4 (QM G E (kR K) xN) h5 k n 91 [(0, .ref a0), (1, va_rf r_1), (2, .int (0 : Int32))] []) ∧
(¬ (i6 = 0) → rv h5 r_2 11 (f_J8_next G h5 r_2 (fun r12 h11 =>
(oc h11 r12 5 ∧ gR h11 r_1 1 1 fun r13 =>
rv h11 r13 10 (f_J2_add G h11 r13 r12 (fun i24 h23 =>
V G E Y_X1_copy cX1_copy 4 (QM G E (kR K) xN) h23 k n 58 [(0, .ref a0), (1, va_rf r_1), (2, va_rf r_2)] [])))))))))
theorem s_X1_copy_58 {G : Gt} {E : Ev} {h : Hp} {k0 n0 : Nat} {a0 : Nat} {r_1 : Option Nat} {r_2 : Option Nat} {K : Option Nat → Hp → Prop} (hG : Base G) (hA : 0 ≤ k0) (hB : 0 ≤ n0) (hf : g_X1_copy_58 G E h (k0 - 0) (n0 - 0) a0 r_1 r_2 K) : V G E Y_X1_copy cX1_copy 4 (QM G E (kR K) xN) h k0 n0 58 [(0, .ref a0), (1, va_rf r_1), (2, va_rf r_2)] [] := by
  obtain ⟨k, hk9⟩ : ∃ z, z = k0 - 0 := ⟨_, rfl⟩
  obtain ⟨n, hn9⟩ : ∃ z, z = n0 - 0 := ⟨_, rfl⟩
  rw [← hk9, ← hn9] at hf
  refine V.weak (k' := k + 0) (n' := n + 0) ?_ (by omega) (by omega)
  unfold g_X1_copy_58 at hf
  refine v_qload_n (r := r_2) (i := 2) dX1_copy_58 rfl rfl ?_
  obtain ⟨a1, rfl⟩ := rv_s hf
  replace hf := rv_e hf
  obtain ⟨w2, fs3, hh4, hf⟩ := hf
  refine V.addK0 ?_
  refine V.addN0 ?_
  refine v_callF (mc := 0) (ms := 0) 0 dX1_copy_59 (m_J8_hasNext hG hf) rfl hh4 rfl (lw_F q339 q343 q345 q99 q347) (fun C9 => v_Fw C9 (by decide) q341 q340 q346 q344 q342) rfl (by decide +kernel) (by decide) rfl (cat_len (Nat.le_of_ble_eq_true rfl)) (kk_I fun i6 h5 hg => ?_) (fun _ _ _ hx => hx.elim)
  replace hf := hg
  clear hg
  refine v_if_eq 89 dX1_copy_64 (by decide) (fun c7 => ?_) (fun c7 => ?_)
  · replace hf := hf.1 c7
    refine v_iconst (v := 0) dX1_copy_89 (by decide) ?_
    refine v_istore_n (i := 2) (lv' := [(0, .ref a0), (1, va_rf r_1), (2, .int (0 : Int32))]) dX1_copy_90 rfl (Nat.le_of_ble_eq_true rfl) rfl rfl ?_
    exact V.weak hf (by omega) (by omega)
  · replace hf := hf.2 c7
    refine v_qload_n (r := (some a1)) (i := 2) dX1_copy_67 rfl rfl ?_
    replace hf := rv_e hf
    obtain ⟨w8, fs9, hh10, hf⟩ := hf
    refine V.addK0 ?_
    refine V.addN0 ?_
    refine v_callF (mc := 0) (ms := 0) 0 dX1_copy_68 (m_J8_next hG hf) rfl hh10 rfl (lw_F q361 q364 q366 q99 q368) (fun C9 => v_Fw C9 (by decide) q363 q362 q367 q365 q342) rfl (by decide +kernel) (by decide) rfl (cat_len (Nat.le_of_ble_eq_true rfl)) (kk_R fun r12 h11 hg => ?_) (fun _ _ _ hx => hx.elim)
    replace hf := hg
    clear hg
    obtain ⟨hoc, hf⟩ := hf
    refine v_castQS (r := r12) dX1_copy_73 q499 hoc rfl ?_
    refine v_qstore_n (i := 3) (r := r12) (lv' := [(0, .ref a0), (1, va_rf r_1), (2, va_rf (some a1)), (3, va_rf r12)]) dX1_copy_76 rfl (Nat.le_of_ble_eq_true rfl) rfl rfl ?_
    refine v_qload_n (r := r_1) (i := 1) dX1_copy_77 rfl rfl ?_
    obtain ⟨a14, rfl⟩ := gR_s hf
    replace hf := gR_e hf
    obtain ⟨w15, fs16, r13, hh17, hk18, hf⟩ := hf
    refine v_getf (T := TX1) (ci := 1) 1 dX1_copy_78 q190 rfl in_X1 (Nat.le_of_ble_eq_true rfl) (Or.inl rfl) hh17 hk18 ?_
    refine v_qload_n (r := r12) (i := 3) dX1_copy_81 rfl rfl ?_
    obtain ⟨a19, rfl⟩ := rv_s hf
    replace hf := rv_e hf
    obtain ⟨w20, fs21, hh22, hf⟩ := hf
    refine V.addK0 ?_
    refine V.addN0 ?_
    refine v_callV (mc := 0) (ms := 0) 1 dX1_copy_82 (m_J2_add hG hf) rfl hh22 rfl (lw_V q422 q423 q424 q92 q425) rfl (by decide +kernel) (by decide) rfl (cat_len (Nat.le_of_ble_eq_true rfl)) (kk_I fun i24 h23 hg => ?_) (fun _ _ _ hx => hx.elim)
    replace hf := hg
    clear hg
    refine v_pop dX1_copy_85 rfl ?_
    refine v_goto 58 dX1_copy_86 (by decide) ?_
    refine V.lp (lv' := [(0, .ref a0), (1, va_rf (some a14)), (2, va_rf (some a1))]) [0, 1, 2] rfl ?_
    exact V.weak hf (by omega) (by omega)
def g_X1_copy_91 (G : Gt) (E : Ev) (h : Hp) (k n : Nat) (a0 : Nat) (r_1 : Option Nat) (i_2 : Int32) (K : Option Nat → Hp → Prop) : Prop :=
(((3 : Int32) ≤ i_2 → gI h (some a0) 1 3 fun i2 =>
pF h r_1 1 3 (.int i2) fun h10 =>
gI h10 (some a0) 1 4 fun i11 =>
pF h10 r_1 1 4 (.int i11) fun h18 =>
gI h18 (some a0) 1 5 fun i19 =>
pF h18 r_1 1 5 (.int i19) fun h26 =>
gI h26 (some a0) 1 6 fun i27 =>
pF h26 r_1 1 6 (.int i27) fun h34 =>
gI h34 (some a0) 1 7 fun i35 =>
pF h34 r_1 1 7 (.int i35) fun h42 =>
K r_1 h42) ∧
(¬ ((3 : Int32) ≤ i_2) → gR h r_1 1 2 fun r43 =>
gR h (some a0) 1 2 fun r49 =>
aI h r49 0 i_2 fun i60 =>
sI h r43 i_2 i60 fun h66 =>
V G E Y_X1_copy cX1_copy 4 (QM G E (kR K) xN) h66 k n 91 [(0, .ref a0), (1, va_rf r_1), (2, .int (i_2 + (1 : Int32)))] []))
theorem s_X1_copy_91 {G : Gt} {E : Ev} {h : Hp} {k0 n0 : Nat} {a0 : Nat} {r_1 : Option Nat} {i_2 : Int32} {K : Option Nat → Hp → Prop} (hG : Base G) (hA : 0 ≤ k0) (hB : 0 ≤ n0) (hf : g_X1_copy_91 G E h (k0 - 0) (n0 - 0) a0 r_1 i_2 K) : V G E Y_X1_copy cX1_copy 4 (QM G E (kR K) xN) h k0 n0 91 [(0, .ref a0), (1, va_rf r_1), (2, .int i_2)] [] := by
  obtain ⟨k, hk9⟩ : ∃ z, z = k0 - 0 := ⟨_, rfl⟩
  obtain ⟨n, hn9⟩ : ∃ z, z = n0 - 0 := ⟨_, rfl⟩
  rw [← hk9, ← hn9] at hf
  refine V.weak (k' := k + 0) (n' := n + 0) ?_ (by omega) (by omega)
  unfold g_X1_copy_91 at hf
  refine v_iload_n (i := 2) dX1_copy_91 rfl rfl ?_
  refine v_iconst (v := 3) dX1_copy_92 (by decide) ?_
  refine v_icmp_ge 114 dX1_copy_93 (by decide) (fun c1 => ?_) (fun c1 => ?_)
  · replace hf := hf.1 c1
    refine v_qload_n (r := r_1) (i := 1) dX1_copy_114 rfl rfl ?_
    refine v_aload_n (i := 0) dX1_copy_115 rfl rfl ?_
    replace hf := gI_e hf
    obtain ⟨w3, fs4, i2, hh5, hk6, hf⟩ := hf
    refine v_getf (T := TX1) (ci := 1) 3 dX1_copy_116 q193 rfl in_X1 (Nat.le_of_ble_eq_true rfl) (Or.inl rfl) hh5 hk6 ?_
    obtain ⟨a7, rfl⟩ := pF_s hf
    replace hf := pF_e hf
    obtain ⟨fs8, hh9, hf⟩ := hf
    refine v_putf (v := .int i2) (T := TX1) (ci := 1) (ty := .int) 3 dX1_copy_119 q193 rfl in_X1 tyX1 tyX1_ok nmX1 (Nat.le_of_ble_eq_true rfl) (Or.inl rfl) rfl (by decide +kernel) rfl rfl hh9 ?_
    obtain ⟨h10, eh10⟩ : ∃ z, z = hs h a7 (true, .inr (1, fs8.set 3 (.int i2))) := ⟨_, rfl⟩
    try rw [← eh10] at hf
    rw [← eh10]
    refine v_qload_n (r := (some a7)) (i := 1) dX1_copy_122 rfl rfl ?_
    refine v_aload_n (i := 0) dX1_copy_123 rfl rfl ?_
    replace hf := gI_e hf
    obtain ⟨w12, fs13, i11, hh14, hk15, hf⟩ := hf
    refine v_getf (T := TX1) (ci := 1) 4 dX1_copy_124 q195 rfl in_X1 (Nat.le_of_ble_eq_true rfl) (Or.inl rfl) hh14 hk15 ?_
    replace hf := pF_e hf
    obtain ⟨fs16, hh17, hf⟩ := hf
    refine v_putf (v := .int i11) (T := TX1) (ci := 1) (ty := .int) 4 dX1_copy_127 q195 rfl in_X1 tyX1 tyX1_ok nmX1 (Nat.le_of_ble_eq_true rfl) (Or.inl rfl) rfl (by decide +kernel) rfl rfl hh17 ?_
    obtain ⟨h18, eh18⟩ : ∃ z, z = hs h10 a7 (true, .inr (1, fs16.set 4 (.int i11))) := ⟨_, rfl⟩
    try rw [← eh18] at hf
    rw [← eh18]
    refine v_qload_n (r := (some a7)) (i := 1) dX1_copy_130 rfl rfl ?_
    refine v_aload_n (i := 0) dX1_copy_131 rfl rfl ?_
    replace hf := gI_e hf
    obtain ⟨w20, fs21, i19, hh22, hk23, hf⟩ := hf
    refine v_getf (T := TX1) (ci := 1) 5 dX1_copy_132 q196 rfl in_X1 (Nat.le_of_ble_eq_true rfl) (Or.inl rfl) hh22 hk23 ?_
    replace hf := pF_e hf
    obtain ⟨fs24, hh25, hf⟩ := hf
    refine v_putf (v := .int i19) (T := TX1) (ci := 1) (ty := .int) 5 dX1_copy_135 q196 rfl in_X1 tyX1 tyX1_ok nmX1 (Nat.le_of_ble_eq_true rfl) (Or.inl rfl) rfl (by decide +kernel) rfl rfl hh25 ?_
    obtain ⟨h26, eh26⟩ : ∃ z, z = hs h18 a7 (true, .inr (1, fs24.set 5 (.int i19))) := ⟨_, rfl⟩
    try rw [← eh26] at hf
    rw [← eh26]
    refine v_qload_n (r := (some a7)) (i := 1) dX1_copy_138 rfl rfl ?_
    refine v_aload_n (i := 0) dX1_copy_139 rfl rfl ?_
    replace hf := gI_e hf
    obtain ⟨w28, fs29, i27, hh30, hk31, hf⟩ := hf
    refine v_getf (T := TX1) (ci := 1) 6 dX1_copy_140 q198 rfl in_X1 (Nat.le_of_ble_eq_true rfl) (Or.inl rfl) hh30 hk31 ?_
    replace hf := pF_e hf
    obtain ⟨fs32, hh33, hf⟩ := hf
    refine v_putf (v := .int i27) (T := TX1) (ci := 1) (ty := .int) 6 dX1_copy_143 q198 rfl in_X1 tyX1 tyX1_ok nmX1 (Nat.le_of_ble_eq_true rfl) (Or.inl rfl) rfl (by decide +kernel) rfl rfl hh33 ?_
    obtain ⟨h34, eh34⟩ : ∃ z, z = hs h26 a7 (true, .inr (1, fs32.set 6 (.int i27))) := ⟨_, rfl⟩
    try rw [← eh34] at hf
    rw [← eh34]
    refine v_qload_n (r := (some a7)) (i := 1) dX1_copy_146 rfl rfl ?_
    refine v_aload_n (i := 0) dX1_copy_147 rfl rfl ?_
    replace hf := gI_e hf
    obtain ⟨w36, fs37, i35, hh38, hk39, hf⟩ := hf
    refine v_getf (T := TX1) (ci := 1) 7 dX1_copy_148 q200 rfl in_X1 (Nat.le_of_ble_eq_true rfl) (Or.inl rfl) hh38 hk39 ?_
    replace hf := pF_e hf
    obtain ⟨fs40, hh41, hf⟩ := hf
    refine v_putf (v := .int i35) (T := TX1) (ci := 1) (ty := .int) 7 dX1_copy_151 q200 rfl in_X1 tyX1 tyX1_ok nmX1 (Nat.le_of_ble_eq_true rfl) (Or.inl rfl) rfl (by decide +kernel) rfl rfl hh41 ?_
    obtain ⟨h42, eh42⟩ : ∃ z, z = hs h34 a7 (true, .inr (1, fs40.set 7 (.int i35))) := ⟨_, rfl⟩
    try rw [← eh42] at hf
    rw [← eh42]
    refine v_qload_n (r := (some a7)) (i := 1) dX1_copy_154 rfl rfl ?_
    exact v_qret (r := (some a7)) dX1_copy_155 rfl (Or.inl ⟨_, rfl⟩) ⟨_, rfl, hf⟩
  · replace hf := hf.2 c1
    refine v_qload_n (r := r_1) (i := 1) dX1_copy_96 rfl rfl ?_
    obtain ⟨a44, rfl⟩ := gR_s hf
    replace hf := gR_e hf
    obtain ⟨w45, fs46, r43, hh47, hk48, hf⟩ := hf
    refine v_getf (T := TX1) (ci := 1) 2 dX1_copy_97 q192 rfl in_X1 (Nat.le_of_ble_eq_true rfl) (Or.inl rfl) hh47 hk48 ?_
    refine v_iload_n (i := 2) dX1_copy_100 rfl rfl ?_
    refine v_aload_n (i := 0) dX1_copy_101 rfl rfl ?_
    replace hf := gR_e hf
    obtain ⟨w50, fs51, r49, hh52, hk53, hf⟩ := hf
    refine v_getf (T := TX1) (ci := 1) 2 dX1_copy_102 q192 rfl in_X1 (Nat.le_of_ble_eq_true rfl) (Or.inl rfl) hh52 hk53 ?_
    refine v_iload_n (i := 2) dX1_copy_105 rfl rfl ?_
    obtain ⟨a54, rfl⟩ := aI_s hf
    replace hf := aI_e hf
    obtain ⟨w55, N56, f57, hh58, hi59, i60, ei60, hf⟩ := hf
    refine v_iald dX1_copy_106 hh58 hi59 ?_
    rw [← ei60]
    obtain ⟨a61, rfl⟩ := sI_s hf
    replace hf := sI_e hf
    obtain ⟨N62, f63, hh64, hi65, hf⟩ := hf
    refine v_iast dX1_copy_107 hh64 hi65 ?_
    obtain ⟨h66, eh66⟩ : ∃ z, z = hs h a61 (true, .inl (0, N62, .inl (upd f63 (i_2).toNatClampNeg (i60)))) := ⟨_, rfl⟩
    try rw [← eh66] at hf
    rw [← eh66]
    refine v_iinc (i := 2) (v := i_2 + (1 : Int32)) (lv' := [(0, .ref a0), (1, va_rf (some a44)), (2, .int (i_2 + (1 : Int32)))]) dX1_copy_108 rfl rfl (Nat.le_of_ble_eq_true rfl) rfl rfl ?_
    refine v_goto 91 dX1_copy_111 (by decide) ?_
    exact V.weak hf (by omega) (by omega)
theorem b_X1_copy {G : Gt} {h : Hp} {mc ms : Nat} {a0 : Nat} {K : Option Nat → Hp → Prop} (hG : Base G) (hf : ∀ E : Ev, V G E Y_X1_copy cX1_copy 4 (QM G E (kR K) xN) h mc ms 0 [(0, .ref a0)] []) : MM G Y_X1_copy cX1_copy 4 mc ms [.ref a0] h (kR K) xN := mm_of hG (by decide +kernel) rfl (ac_c rfl ac_nil) (Nat.le_of_ble_eq_true rfl) (fun E _ _ => hf E)
abbrev Y_J2_size : Yt := (yJ2_size, some (.int), 1, 40, [])
def f_J2_size (G : Gt) (h : Hp) (t_0 : Option Nat) (K : Int32 → Hp → Prop) : Prop :=
gI h t_0 10 2 fun i1 =>
K i1 h
theorem m_J2_size {G : Gt} {h : Hp} {a0 : Nat} {K : Int32 → Hp → Prop} (hG : Base G) (hf : f_J2_size G h (some a0) K) : MM G Y_J2_size cJ2_size 1 0 0 [.ref a0] h (kI K) xN := by
  refine mm_of hG (by decide +kernel) rfl (ac_c rfl ac_nil) (Nat.le_of_ble_eq_true rfl) (fun E _ _ => ?_)
  show V G E Y_J2_size cJ2_size 1 (QM G E (kI K) xN) h 0 0 0 [(0, .ref a0)] []
  unfold f_J2_size at hf
  refine v_qload_n (r := (some a0)) (i := 0) dJ2_size_0 rfl rfl ?_
  replace hf := gI_e hf
  obtain ⟨w2, fs3, i1, hh4, hk5, hf⟩ := hf
  refine v_getf (T := TJ2) (ci := 10) 2 dJ2_size_1 q174 rfl in_J2 (Nat.le_of_ble_eq_true rfl) (Or.inl rfl) hh4 hk5 ?_
  exact v_iret dJ2_size_4 rfl ⟨_, rfl, hf⟩
abbrev Y_X1_many : Yt := (yX1_many, some (.int), 2, 60, [])
def f_X1_many (G : Gt) (h : Hp) (t_0 : Option Nat) (K : Int32 → Hp → Prop) : Prop :=
gR h t_0 1 0 fun r1 =>
rv h r1 10 (f_J2_size G h r1 (fun i11 h10 =>
K i11 h10))
theorem m_X1_many {G : Gt} {h : Hp} {a0 : Nat} {K : Int32 → Hp → Prop} (hG : Base G) (hf : f_X1_many G h (some a0) K) : MM G Y_X1_many cX1_many 1 0 0 [.ref a0] h (kI K) xN := by
  refine mm_of hG (by decide +kernel) rfl (ac_c rfl ac_nil) (Nat.le_of_ble_eq_true rfl) (fun E _ _ => ?_)
  show V G E Y_X1_many cX1_many 1 (QM G E (kI K) xN) h 0 0 0 [(0, .ref a0)] []
  unfold f_X1_many at hf
  refine v_qload_n (r := (some a0)) (i := 0) dX1_many_0 rfl rfl ?_
  replace hf := gR_e hf
  obtain ⟨w2, fs3, r1, hh4, hk5, hf⟩ := hf
  refine v_getf (T := TX1) (ci := 1) 0 dX1_many_1 q188 rfl in_X1 (Nat.le_of_ble_eq_true rfl) (Or.inl rfl) hh4 hk5 ?_
  obtain ⟨a6, rfl⟩ := rv_s hf
  replace hf := rv_e hf
  obtain ⟨w7, fs8, hh9, hf⟩ := hf
  refine V.addK0 ?_
  refine V.addN0 ?_
  refine v_callV (mc := 0) (ms := 0) 0 dX1_many_4 (m_J2_size hG hf) rfl hh9 rfl (lw_V q508 q509 q510 q92 q511) rfl (by decide +kernel) (by decide) rfl (cat_len (Nat.le_of_ble_eq_true rfl)) (kk_I fun i11 h10 hg => ?_) (fun _ _ _ hx => hx.elim)
  replace hf := hg
  clear hg
  exact v_iret dX1_many_7 rfl ⟨_, rfl, hf⟩
abbrev Y_X0_refuse : Yt := (yX0_refuse, none, 4, 110, [])
def f_X0_refuse (G : Gt) (h : Hp) (i_0 : Int32) (i_1 : Int32) (i_2 : Int32) (K : Hp → Prop) (X : Nat → Nat → Hp → Prop) : Prop :=
((i_0 = 0 → K h) ∧
(¬ (i_0 = 0) → nO h 4 [.null, .null, .null, .null, .null, .int 0, .int 0, .int 0] fun a2 h3 =>
f_X4_init G h3 (some a2) i_1 i_2 (fun h4 =>
tw h4 (some a2) 4 (fun q9 => X 4 q9 h4))))
theorem m_X0_refuse {G : Gt} {h : Hp} {i_0 : Int32} {i_1 : Int32} {i_2 : Int32} {K : Hp → Prop} {X : Nat → Nat → Hp → Prop} (hG : Base G) (hf : f_X0_refuse G h i_0 i_1 i_2 K X) : MM G Y_X0_refuse cX0_refuse 3 1 8 [.int i_0, .int i_1, .int i_2] h (kV K) X := by
  refine mm_of hG (by decide +kernel) rfl (ac_c rfl (ac_c rfl (ac_c rfl ac_nil))) (Nat.le_of_ble_eq_true rfl) (fun E _ _ => ?_)
  show V G E Y_X0_refuse cX0_refuse 3 (QM G E (kV K) X) h 1 8 0 [(0, .int i_0), (1, .int i_1), (2, .int i_2)] []
  unfold f_X0_refuse at hf
  refine v_iload_n (i := 0) dX0_refuse_0 rfl rfl ?_
  refine v_if_eq 14 dX0_refuse_1 (by decide) (fun c1 => ?_) (fun c1 => ?_)
  · replace hf := hf.1 c1
    exact v_vret dX0_refuse_14 rfl ⟨rfl, hf⟩
  · replace hf := hf.2 c1
    refine v_new (N := 8) (fs := [.null, .null, .null, .null, .null, .int 0, .int 0, .int 0]) (ci := 4) dX0_refuse_4 q302 q515 q107 rfl in_X4 tyX4 tyX4_ok rfl (fun a2 ha2 => ?_)
    replace hf := hf a2 ha2
    obtain ⟨h3, eh3⟩ : ∃ z, z = hs h a2 (true, .inr (4, [.null, .null, .null, .null, .null, .int 0, .int 0, .int 0])) := ⟨_, rfl⟩
    try rw [← eh3] at hf
    rw [← eh3]
    refine v_dup dX0_refuse_7 rfl ?_
    refine v_iload_n (i := 1) dX0_refuse_8 rfl rfl ?_
    refine v_iload_n (i := 2) dX0_refuse_9 rfl rfl ?_
    refine V.addK0 ?_
    refine V.addN0 ?_
    refine v_callI (mc := 0) (ms := 0) 2 dX0_refuse_10 (m_X4_init hG hf) rfl (lw_meth q554) rfl q107 q552 q553 rfl rfl (by decide +kernel) (by decide) rfl (cat_len (Nat.le_of_ble_eq_true rfl)) (kk_V fun h4 hg => ?_) (fun _ _ _ hx => hx.elim)
    replace hf := hg
    clear hg
    replace hf := tw_e hf
    obtain ⟨fs5, hh6, hf⟩ := hf
    refine v_athrow dX0_refuse_13 hh6 rfl ?_
    exact vx_leave (by decide) hf
abbrev Y_X1_adds : Yt := (yX1_adds, some (.int), 5, 132, [])
def f_X1_adds (G : Gt) (h : Hp) (t_0 : Option Nat) (i_1 : Int32) (K : Int32 → Hp → Prop) (X : Nat → Nat → Hp → Prop) : Prop :=
rv h t_0 1 (f_X1_many G h t_0 (fun i5 h4 =>
((¬ (i5 = (10 : Int32)) → f_X0_refuse G h4 (0 : Int32) (1 : Int32) (10 : Int32) (fun h7 =>
gR h7 t_0 1 0 fun r8 =>
nO h7 3 [.null, .int 0] fun a13 h14 =>
f_X3_init_2 G h14 (some a13) i_1 (fun h15 =>
rv h15 r8 10 (f_J2_add G h15 r8 (some a13) (fun i21 h20 =>
rv h20 t_0 1 (f_X1_many G h20 t_0 (fun i26 h25 =>
K (i26 - (1 : Int32)) h25)))))) X) ∧
(i5 = (10 : Int32) → f_X0_refuse G h4 (1 : Int32) (1 : Int32) (10 : Int32) (fun h27 =>
gR h27 t_0 1 0 fun r28 =>
nO h27 3 [.null, .int 0] fun a33 h34 =>
f_X3_init_2 G h34 (some a33) i_1 (fun h35 =>
rv h35 r28 10 (f_J2_add G h35 r28 (some a33) (fun i41 h40 =>
rv h40 t_0 1 (f_X1_many G h40 t_0 (fun i46 h45 =>
K (i46 - (1 : Int32)) h45)))))) X))))
theorem m_X1_adds {G : Gt} {h : Hp} {a0 : Nat} {i_1 : Int32} {K : Int32 → Hp → Prop} {X : Nat → Nat → Hp → Prop} (hG : Base G) (hf : f_X1_adds G h (some a0) i_1 K X) : MM G Y_X1_adds cX1_adds 2 3 13 [.ref a0, .int i_1] h (kI K) X := by
  refine mm_of hG (by decide +kernel) rfl (ac_c rfl (ac_c rfl ac_nil)) (Nat.le_of_ble_eq_true rfl) (fun E _ _ => ?_)
  show V G E Y_X1_adds cX1_adds 2 (QM G E (kI K) X) h 3 13 0 [(0, .ref a0), (1, .int i_1)] []
  unfold f_X1_adds at hf
  refine v_qload_n (r := (some a0)) (i := 0) dX1_adds_0 rfl rfl ?_
  replace hf := rv_e hf
  obtain ⟨w1, fs2, hh3, hf⟩ := hf
  refine V.addK0 ?_
  refine V.addN0 ?_
  refine v_callV (mc := 0) (ms := 0) 0 dX1_adds_1 (m_X1_many hG hf) rfl hh3 rfl (lw_V q504 q505 q506 q89 q507) rfl (by decide +kernel) (by decide) rfl (cat_len (Nat.le_of_ble_eq_true rfl)) (kk_I fun i5 h4 hg => ?_) (fun _ _ _ hx => hx.elim)
  replace hf := hg
  clear hg
  refine v_bipush (v := 10) dX1_adds_4 (by decide) ?_
  refine v_icmp_ne 13 dX1_adds_6 (by decide) (fun c6 => ?_) (fun c6 => ?_)
  · replace hf := hf.1 c6
    refine v_iconst (v := 0) dX1_adds_13 (by decide) ?_
    refine v_iconst (v := 1) dX1_adds_14 (by decide) ?_
    refine v_bipush (v := 10) dX1_adds_15 (by decide) ?_
    refine v_callSN (mc := 1) (ms := 8) 3 dX1_adds_17 (m_X0_refuse hG hf) rfl (lw_meth q514) q88 q512 q513 rfl (by decide +kernel) (by decide) rfl (cat_len (Nat.le_of_ble_eq_true rfl)) (kk_V fun h7 hg => ?_) (fun _ _ _ hx => vx_leave (by decide) hx)
    replace hf := hg
    clear hg
    refine v_qload_n (r := (some a0)) (i := 0) dX1_adds_20 rfl rfl ?_
    replace hf := gR_e hf
    obtain ⟨w9, fs10, r8, hh11, hk12, hf⟩ := hf
    refine v_getf (T := TX1) (ci := 1) 0 dX1_adds_21 q188 rfl in_X1 (Nat.le_of_ble_eq_true rfl) (Or.inl rfl) hh11 hk12 ?_
    refine v_new (N := 2) (fs := [.null, .int 0]) (ci := 3) dX1_adds_24 q402 q408 q100 rfl in_X3 tyX3 tyX3_ok rfl (fun a13 ha13 => ?_)
    replace hf := hf a13 ha13
    obtain ⟨h14, eh14⟩ : ∃ z, z = hs h7 a13 (true, .inr (3, [.null, .int 0])) := ⟨_, rfl⟩
    try rw [← eh14] at hf
    rw [← eh14]
    refine v_dup dX1_adds_27 rfl ?_
    refine v_iload_n (i := 1) dX1_adds_28 rfl rfl ?_
    refine v_callI (mc := 1) (ms := 3) 1 dX1_adds_29 (m_X3_init_2 hG hf) rfl (lw_meth q584) rfl q100 q582 q583 rfl rfl (by decide +kernel) (by decide) rfl (cat_len (Nat.le_of_ble_eq_true rfl)) (kk_V fun h15 hg => ?_) (fun _ _ _ hx => hx.elim)
    replace hf := hg
    clear hg
    obtain ⟨a16, rfl⟩ := rv_s hf
    replace hf := rv_e hf
    obtain ⟨w17, fs18, hh19, hf⟩ := hf
    refine V.addK0 ?_
    refine V.addN0 ?_
    refine v_callV (mc := 0) (ms := 0) 1 dX1_adds_32 (m_J2_add hG hf) rfl hh19 rfl (lw_V q422 q423 q424 q92 q425) rfl (by decide +kernel) (by decide) rfl (cat_len (Nat.le_of_ble_eq_true rfl)) (kk_I fun i21 h20 hg => ?_) (fun _ _ _ hx => hx.elim)
    replace hf := hg
    clear hg
    refine v_pop dX1_adds_35 rfl ?_
    refine v_qload_n (r := (some a0)) (i := 0) dX1_adds_36 rfl rfl ?_
    replace hf := rv_e hf
    obtain ⟨w22, fs23, hh24, hf⟩ := hf
    refine V.addK0 ?_
    refine V.addN0 ?_
    refine v_callV (mc := 0) (ms := 0) 0 dX1_adds_37 (m_X1_many hG hf) rfl hh24 rfl (lw_V q504 q505 q506 q89 q507) rfl (by decide +kernel) (by decide) rfl (cat_len (Nat.le_of_ble_eq_true rfl)) (kk_I fun i26 h25 hg => ?_) (fun _ _ _ hx => hx.elim)
    replace hf := hg
    clear hg
    refine v_iconst (v := 1) dX1_adds_40 (by decide) ?_
    refine v_isub dX1_adds_41 ?_
    exact v_iret dX1_adds_42 rfl ⟨_, rfl, hf⟩
  · replace hf := hf.2 c6
    refine v_iconst (v := 1) dX1_adds_9 (by decide) ?_
    refine v_goto 14 dX1_adds_10 (by decide) ?_
    refine v_iconst (v := 1) dX1_adds_14 (by decide) ?_
    refine v_bipush (v := 10) dX1_adds_15 (by decide) ?_
    refine v_callSN (mc := 1) (ms := 8) 3 dX1_adds_17 (m_X0_refuse hG hf) rfl (lw_meth q514) q88 q512 q513 rfl (by decide +kernel) (by decide) rfl (cat_len (Nat.le_of_ble_eq_true rfl)) (kk_V fun h27 hg => ?_) (fun _ _ _ hx => vx_leave (by decide) hx)
    replace hf := hg
    clear hg
    refine v_qload_n (r := (some a0)) (i := 0) dX1_adds_20 rfl rfl ?_
    replace hf := gR_e hf
    obtain ⟨w29, fs30, r28, hh31, hk32, hf⟩ := hf
    refine v_getf (T := TX1) (ci := 1) 0 dX1_adds_21 q188 rfl in_X1 (Nat.le_of_ble_eq_true rfl) (Or.inl rfl) hh31 hk32 ?_
    refine v_new (N := 2) (fs := [.null, .int 0]) (ci := 3) dX1_adds_24 q402 q408 q100 rfl in_X3 tyX3 tyX3_ok rfl (fun a33 ha33 => ?_)
    replace hf := hf a33 ha33
    obtain ⟨h34, eh34⟩ : ∃ z, z = hs h27 a33 (true, .inr (3, [.null, .int 0])) := ⟨_, rfl⟩
    try rw [← eh34] at hf
    rw [← eh34]
    refine v_dup dX1_adds_27 rfl ?_
    refine v_iload_n (i := 1) dX1_adds_28 rfl rfl ?_
    refine v_callI (mc := 1) (ms := 3) 1 dX1_adds_29 (m_X3_init_2 hG hf) rfl (lw_meth q584) rfl q100 q582 q583 rfl rfl (by decide +kernel) (by decide) rfl (cat_len (Nat.le_of_ble_eq_true rfl)) (kk_V fun h35 hg => ?_) (fun _ _ _ hx => hx.elim)
    replace hf := hg
    clear hg
    obtain ⟨a36, rfl⟩ := rv_s hf
    replace hf := rv_e hf
    obtain ⟨w37, fs38, hh39, hf⟩ := hf
    refine V.addK0 ?_
    refine V.addN0 ?_
    refine v_callV (mc := 0) (ms := 0) 1 dX1_adds_32 (m_J2_add hG hf) rfl hh39 rfl (lw_V q422 q423 q424 q92 q425) rfl (by decide +kernel) (by decide) rfl (cat_len (Nat.le_of_ble_eq_true rfl)) (kk_I fun i41 h40 hg => ?_) (fun _ _ _ hx => hx.elim)
    replace hf := hg
    clear hg
    refine v_pop dX1_adds_35 rfl ?_
    refine v_qload_n (r := (some a0)) (i := 0) dX1_adds_36 rfl rfl ?_
    replace hf := rv_e hf
    obtain ⟨w42, fs43, hh44, hf⟩ := hf
    refine V.addK0 ?_
    refine V.addN0 ?_
    refine v_callV (mc := 0) (ms := 0) 0 dX1_adds_37 (m_X1_many hG hf) rfl hh44 rfl (lw_V q504 q505 q506 q89 q507) rfl (by decide +kernel) (by decide) rfl (cat_len (Nat.le_of_ble_eq_true rfl)) (kk_I fun i46 h45 hg => ?_) (fun _ _ _ hx => hx.elim)
    replace hf := hg
    clear hg
    refine v_iconst (v := 1) dX1_adds_40 (by decide) ?_
    refine v_isub dX1_adds_41 ?_
    exact v_iret dX1_adds_42 rfl ⟨_, rfl, hf⟩
abbrev Y_X0_isIn : Yt := (yX0_isIn, some (.boolean), 1, 40, [])
def f_X0_isIn (G : Gt) (h : Hp) (i_0 : Int32) (i_1 : Int32) (i_2 : Int32) (K : Int32 → Hp → Prop) : Prop :=
((i_0 < i_1 → K (0 : Int32) h) ∧
(¬ (i_0 < i_1) → ((i_2 < i_0 → K (0 : Int32) h) ∧
(¬ (i_2 < i_0) → K (1 : Int32) h))))
theorem m_X0_isIn {G : Gt} {h : Hp} {i_0 : Int32} {i_1 : Int32} {i_2 : Int32} {K : Int32 → Hp → Prop} (hG : Base G) (hf : f_X0_isIn G h i_0 i_1 i_2 K) : MM G Y_X0_isIn cX0_isIn 3 0 0 [.int i_0, .int i_1, .int i_2] h (kI K) xN := by
  refine mm_of hG (by decide +kernel) rfl (ac_c rfl (ac_c rfl (ac_c rfl ac_nil))) (Nat.le_of_ble_eq_true rfl) (fun E _ _ => ?_)
  show V G E Y_X0_isIn cX0_isIn 3 (QM G E (kI K) xN) h 0 0 0 [(0, .int i_0), (1, .int i_1), (2, .int i_2)] []
  unfold f_X0_isIn at hf
  refine v_iload_n (i := 0) dX0_isIn_0 rfl rfl ?_
  refine v_iload_n (i := 1) dX0_isIn_1 rfl rfl ?_
  refine v_icmp_lt 14 dX0_isIn_2 (by decide) (fun c1 => ?_) (fun c1 => ?_)
  · replace hf := hf.1 c1
    refine v_iconst (v := 0) dX0_isIn_14 (by decide) ?_
    exact v_zret dX0_isIn_15 rfl (by decide) ⟨_, rfl, hf⟩
  · replace hf := hf.2 c1
    refine v_iload_n (i := 0) dX0_isIn_5 rfl rfl ?_
    refine v_iload_n (i := 2) dX0_isIn_6 rfl rfl ?_
    refine v_icmp_gt 14 dX0_isIn_7 (by decide) (fun c2 => ?_) (fun c2 => ?_)
    · replace hf := hf.1 c2
      refine v_iconst (v := 0) dX0_isIn_14 (by decide) ?_
      exact v_zret dX0_isIn_15 rfl (by decide) ⟨_, rfl, hf⟩
    · replace hf := hf.2 c2
      refine v_iconst (v := 1) dX0_isIn_10 (by decide) ?_
      refine v_goto 15 dX0_isIn_11 (by decide) ?_
      exact v_zret dX0_isIn_15 rfl (by decide) ⟨_, rfl, hf⟩
abbrev Y_X1_isRoom : Yt := (yX1_isRoom, some (.boolean), 3, 80, [])
def f_X1_isRoom (G : Gt) (h : Hp) (t_0 : Option Nat) (i_1 : Int32) (K : Int32 → Hp → Prop) : Prop :=
rv h t_0 1 (f_X1_many G h t_0 (fun i5 h4 =>
f_X0_isIn G h4 i_1 (0 : Int32) (i5 - (1 : Int32)) (fun i7 h6 =>
(narrow .boolean (.int i7) = .int i7 ∧ K i7 h6))))
theorem m_X1_isRoom {G : Gt} {h : Hp} {a0 : Nat} {i_1 : Int32} {K : Int32 → Hp → Prop} (hG : Base G) (hf : f_X1_isRoom G h (some a0) i_1 K) : MM G Y_X1_isRoom cX1_isRoom 2 0 0 [.ref a0, .int i_1] h (kI K) xN := by
  refine mm_of hG (by decide +kernel) rfl (ac_c rfl (ac_c rfl ac_nil)) (Nat.le_of_ble_eq_true rfl) (fun E _ _ => ?_)
  show V G E Y_X1_isRoom cX1_isRoom 2 (QM G E (kI K) xN) h 0 0 0 [(0, .ref a0), (1, .int i_1)] []
  unfold f_X1_isRoom at hf
  refine v_iload_n (i := 1) dX1_isRoom_0 rfl rfl ?_
  refine v_iconst (v := 0) dX1_isRoom_1 (by decide) ?_
  refine v_qload_n (r := (some a0)) (i := 0) dX1_isRoom_2 rfl rfl ?_
  replace hf := rv_e hf
  obtain ⟨w1, fs2, hh3, hf⟩ := hf
  refine V.addK0 ?_
  refine V.addN0 ?_
  refine v_callV (mc := 0) (ms := 0) 0 dX1_isRoom_3 (m_X1_many hG hf) rfl hh3 rfl (lw_V q504 q505 q506 q89 q507) rfl (by decide +kernel) (by decide) rfl (cat_len (Nat.le_of_ble_eq_true rfl)) (kk_I fun i5 h4 hg => ?_) (fun _ _ _ hx => hx.elim)
  replace hf := hg
  clear hg
  refine v_iconst (v := 1) dX1_isRoom_6 (by decide) ?_
  refine v_isub dX1_isRoom_7 ?_
  refine V.addK0 ?_
  refine V.addN0 ?_
  refine v_callSN (mc := 0) (ms := 0) 3 dX1_isRoom_8 (m_X0_isIn hG hf) rfl (lw_meth q308) q88 q642 q307 rfl (by decide +kernel) (by decide) rfl (cat_len (Nat.le_of_ble_eq_true rfl)) (kk_I fun i7 h6 hg => ?_) (fun _ _ _ hx => hx.elim)
  replace hf := hg
  clear hg
  exact v_zret dX1_isRoom_11 rfl hf.1 ⟨_, rfl, hf.2⟩
abbrev Y_X1_areRooms : Yt := (yX1_areRooms, some (.boolean), 4, 101, [])
def f_X1_areRooms (G : Gt) (h : Hp) (t_0 : Option Nat) (i_1 : Int32) (i_2 : Int32) (K : Int32 → Hp → Prop) : Prop :=
rv h t_0 1 (f_X1_isRoom G h t_0 i_1 (fun i5 h4 =>
((i5 = 0 → K (0 : Int32) h4) ∧
(¬ (i5 = 0) → rv h4 t_0 1 (f_X1_isRoom G h4 t_0 i_2 (fun i11 h10 =>
((i11 = 0 → K (0 : Int32) h10) ∧
(¬ (i11 = 0) → K (1 : Int32) h10))))))))
theorem m_X1_areRooms {G : Gt} {h : Hp} {a0 : Nat} {i_1 : Int32} {i_2 : Int32} {K : Int32 → Hp → Prop} (hG : Base G) (hf : f_X1_areRooms G h (some a0) i_1 i_2 K) : MM G Y_X1_areRooms cX1_areRooms 3 0 0 [.ref a0, .int i_1, .int i_2] h (kI K) xN := by
  refine mm_of hG (by decide +kernel) rfl (ac_c rfl (ac_c rfl (ac_c rfl ac_nil))) (Nat.le_of_ble_eq_true rfl) (fun E _ _ => ?_)
  show V G E Y_X1_areRooms cX1_areRooms 3 (QM G E (kI K) xN) h 0 0 0 [(0, .ref a0), (1, .int i_1), (2, .int i_2)] []
  unfold f_X1_areRooms at hf
  refine v_qload_n (r := (some a0)) (i := 0) dX1_areRooms_0 rfl rfl ?_
  refine v_iload_n (i := 1) dX1_areRooms_1 rfl rfl ?_
  replace hf := rv_e hf
  obtain ⟨w1, fs2, hh3, hf⟩ := hf
  refine V.addK0 ?_
  refine V.addN0 ?_
  refine v_callV (mc := 0) (ms := 0) 1 dX1_areRooms_2 (m_X1_isRoom hG hf) rfl hh3 rfl (lw_V q638 q639 q640 q89 q641) rfl (by decide +kernel) (by decide) rfl (cat_len (Nat.le_of_ble_eq_true rfl)) (kk_I fun i5 h4 hg => ?_) (fun _ _ _ hx => hx.elim)
  replace hf := hg
  clear hg
  refine v_if_eq 20 dX1_areRooms_5 (by decide) (fun c6 => ?_) (fun c6 => ?_)
  · replace hf := hf.1 c6
    refine v_iconst (v := 0) dX1_areRooms_20 (by decide) ?_
    exact v_zret dX1_areRooms_21 rfl (by decide) ⟨_, rfl, hf⟩
  · replace hf := hf.2 c6
    refine v_qload_n (r := (some a0)) (i := 0) dX1_areRooms_8 rfl rfl ?_
    refine v_iload_n (i := 2) dX1_areRooms_9 rfl rfl ?_
    replace hf := rv_e hf
    obtain ⟨w7, fs8, hh9, hf⟩ := hf
    refine V.addK0 ?_
    refine V.addN0 ?_
    refine v_callV (mc := 0) (ms := 0) 1 dX1_areRooms_10 (m_X1_isRoom hG hf) rfl hh9 rfl (lw_V q638 q639 q640 q89 q641) rfl (by decide +kernel) (by decide) rfl (cat_len (Nat.le_of_ble_eq_true rfl)) (kk_I fun i11 h10 hg => ?_) (fun _ _ _ hx => hx.elim)
    replace hf := hg
    clear hg
    refine v_if_eq 20 dX1_areRooms_13 (by decide) (fun c12 => ?_) (fun c12 => ?_)
    · replace hf := hf.1 c12
      refine v_iconst (v := 0) dX1_areRooms_20 (by decide) ?_
      exact v_zret dX1_areRooms_21 rfl (by decide) ⟨_, rfl, hf⟩
    · replace hf := hf.2 c12
      refine v_iconst (v := 1) dX1_areRooms_16 (by decide) ?_
      refine v_goto 21 dX1_areRooms_17 (by decide) ?_
      exact v_zret dX1_areRooms_21 rfl (by decide) ⟨_, rfl, hf⟩
abbrev Y_X1_between : Yt := (yX1_between, some (.int), 4, 104, [])
def g_X1_between_0 (G : Gt) (E : Ev) (h : Hp) (k n : Nat) (a0 : Nat) (i_1 : Int32) (i_2 : Int32) (K : Int32 → Hp → Prop) : Prop :=
V G E Y_X1_between cX1_between 4 (QM G E (kI K) xN) h k n 2 [(0, .ref a0), (1, .int i_1), (2, .int i_2), (3, .int (0 : Int32))] []
theorem s_X1_between_0 {G : Gt} {E : Ev} {h : Hp} {k0 n0 : Nat} {a0 : Nat} {i_1 : Int32} {i_2 : Int32} {K : Int32 → Hp → Prop} (hG : Base G) (hA : 0 ≤ k0) (hB : 0 ≤ n0) (hf : g_X1_between_0 G E h (k0 - 0) (n0 - 0) a0 i_1 i_2 K) : V G E Y_X1_between cX1_between 4 (QM G E (kI K) xN) h k0 n0 0 [(0, .ref a0), (1, .int i_1), (2, .int i_2)] [] := by
  obtain ⟨k, hk9⟩ : ∃ z, z = k0 - 0 := ⟨_, rfl⟩
  obtain ⟨n, hn9⟩ : ∃ z, z = n0 - 0 := ⟨_, rfl⟩
  rw [← hk9, ← hn9] at hf
  refine V.weak (k' := k + 0) (n' := n + 0) ?_ (by omega) (by omega)
  unfold g_X1_between_0 at hf
  refine v_iconst (v := 0) dX1_between_0 (by decide) ?_
  refine v_istore_n (i := 3) (lv' := [(0, .ref a0), (1, .int i_1), (2, .int i_2), (3, .int (0 : Int32))]) dX1_between_1 rfl (Nat.le_of_ble_eq_true rfl) rfl rfl ?_
  exact V.weak hf (by omega) (by omega)
def g_X1_between_2 (G : Gt) (E : Ev) (h : Hp) (k n : Nat) (a0 : Nat) (i_1 : Int32) (i_2 : Int32) (i_3 : Int32) (K : Int32 → Hp → Prop) : Prop :=
gR h (some a0) 1 1 fun r1 =>
rv h r1 10 (f_J2_size G h r1 (fun i11 h10 =>
((i11 ≤ i_3 → K (-1011 : Int32) h10) ∧
(¬ (i11 ≤ i_3) → gR h10 (some a0) 1 1 fun r13 =>
rv h10 r13 10 (f_J2_get G h10 r13 i_3 (fun r23 h22 =>
(oc h22 r23 5 ∧ rv h22 r23 5 (f_X5_isBetween G h22 r23 i_1 i_2 (fun i29 h28 =>
((i29 = 0 → V G E Y_X1_between cX1_between 4 (QM G E (kI K) xN) h28 k n 2 [(0, .ref a0), (1, .int i_1), (2, .int i_2), (3, .int (i_3 + (1 : Int32)))] []) ∧
(¬ (i29 = 0) → K i_3 h28)))))))))))
theorem s_X1_between_2 {G : Gt} {E : Ev} {h : Hp} {k0 n0 : Nat} {a0 : Nat} {i_1 : Int32} {i_2 : Int32} {i_3 : Int32} {K : Int32 → Hp → Prop} (hG : Base G) (hA : 0 ≤ k0) (hB : 0 ≤ n0) (hf : g_X1_between_2 G E h (k0 - 0) (n0 - 0) a0 i_1 i_2 i_3 K) : V G E Y_X1_between cX1_between 4 (QM G E (kI K) xN) h k0 n0 2 [(0, .ref a0), (1, .int i_1), (2, .int i_2), (3, .int i_3)] [] := by
  obtain ⟨k, hk9⟩ : ∃ z, z = k0 - 0 := ⟨_, rfl⟩
  obtain ⟨n, hn9⟩ : ∃ z, z = n0 - 0 := ⟨_, rfl⟩
  rw [← hk9, ← hn9] at hf
  refine V.weak (k' := k + 0) (n' := n + 0) ?_ (by omega) (by omega)
  unfold g_X1_between_2 at hf
  refine v_iload_n (i := 3) dX1_between_2 rfl rfl ?_
  refine v_aload_n (i := 0) dX1_between_3 rfl rfl ?_
  replace hf := gR_e hf
  obtain ⟨w2, fs3, r1, hh4, hk5, hf⟩ := hf
  refine v_getf (T := TX1) (ci := 1) 1 dX1_between_4 q190 rfl in_X1 (Nat.le_of_ble_eq_true rfl) (Or.inl rfl) hh4 hk5 ?_
  obtain ⟨a6, rfl⟩ := rv_s hf
  replace hf := rv_e hf
  obtain ⟨w7, fs8, hh9, hf⟩ := hf
  refine V.addK0 ?_
  refine V.addN0 ?_
  refine v_callV (mc := 0) (ms := 0) 0 dX1_between_7 (m_J2_size hG hf) rfl hh9 rfl (lw_V q508 q509 q510 q92 q511) rfl (by decide +kernel) (by decide) rfl (cat_len (Nat.le_of_ble_eq_true rfl)) (kk_I fun i11 h10 hg => ?_) (fun _ _ _ hx => hx.elim)
  replace hf := hg
  clear hg
  refine v_icmp_ge 40 dX1_between_10 (by decide) (fun c12 => ?_) (fun c12 => ?_)
  · replace hf := hf.1 c12
    refine v_sipush (v := -1011) dX1_between_40 (by decide) ?_
    exact v_iret dX1_between_43 rfl ⟨_, rfl, hf⟩
  · replace hf := hf.2 c12
    refine v_aload_n (i := 0) dX1_between_13 rfl rfl ?_
    replace hf := gR_e hf
    obtain ⟨w14, fs15, r13, hh16, hk17, hf⟩ := hf
    refine v_getf (T := TX1) (ci := 1) 1 dX1_between_14 q190 rfl in_X1 (Nat.le_of_ble_eq_true rfl) (Or.inl rfl) hh16 hk17 ?_
    refine v_iload_n (i := 3) dX1_between_17 rfl rfl ?_
    obtain ⟨a18, rfl⟩ := rv_s hf
    replace hf := rv_e hf
    obtain ⟨w19, fs20, hh21, hf⟩ := hf
    refine V.addK0 ?_
    refine V.addN0 ?_
    refine v_callV (mc := 0) (ms := 0) 1 dX1_between_18 (m_J2_get hG hf) rfl hh21 rfl (lw_V q660 q661 q662 q92 q663) rfl (by decide +kernel) (by decide) rfl (cat_len (Nat.le_of_ble_eq_true rfl)) (kk_R fun r23 h22 hg => ?_) (fun _ _ _ hx => hx.elim)
    replace hf := hg
    clear hg
    obtain ⟨hoc, hf⟩ := hf
    refine v_castQS (r := r23) dX1_between_21 q499 hoc rfl ?_
    refine v_iload_n (i := 1) dX1_between_24 rfl rfl ?_
    refine v_iload_n (i := 2) dX1_between_25 rfl rfl ?_
    obtain ⟨a24, rfl⟩ := rv_s hf
    replace hf := rv_e hf
    obtain ⟨w25, fs26, hh27, hf⟩ := hf
    refine V.addK0 ?_
    refine V.addN0 ?_
    refine v_callV (mc := 0) (ms := 0) 2 dX1_between_26 (m_X5_isBetween hG hf) rfl hh27 rfl (lw_V q674 q675 q676 q110 q677) rfl (by decide +kernel) (by decide) rfl (cat_len (Nat.le_of_ble_eq_true rfl)) (kk_I fun i29 h28 hg => ?_) (fun _ _ _ hx => hx.elim)
    replace hf := hg
    clear hg
    refine v_if_eq 34 dX1_between_29 (by decide) (fun c30 => ?_) (fun c30 => ?_)
    · replace hf := hf.1 c30
      refine v_iinc (i := 3) (v := i_3 + (1 : Int32)) (lv' := [(0, .ref a0), (1, .int i_1), (2, .int i_2), (3, .int (i_3 + (1 : Int32)))]) dX1_between_34 rfl rfl (Nat.le_of_ble_eq_true rfl) rfl rfl ?_
      refine v_goto 2 dX1_between_37 (by decide) ?_
      exact V.weak hf (by omega) (by omega)
    · replace hf := hf.2 c30
      refine v_iload_n (i := 3) dX1_between_32 rfl rfl ?_
      exact v_iret dX1_between_33 rfl ⟨_, rfl, hf⟩
theorem b_X1_between {G : Gt} {h : Hp} {mc ms : Nat} {a0 : Nat} {i_1 : Int32} {i_2 : Int32} {K : Int32 → Hp → Prop} (hG : Base G) (hf : ∀ E : Ev, V G E Y_X1_between cX1_between 4 (QM G E (kI K) xN) h mc ms 0 [(0, .ref a0), (1, .int i_1), (2, .int i_2)] []) : MM G Y_X1_between cX1_between 4 mc ms [.ref a0, .int i_1, .int i_2] h (kI K) xN := mm_of hG (by decide +kernel) rfl (ac_c rfl (ac_c rfl (ac_c rfl ac_nil))) (Nat.le_of_ble_eq_true rfl) (fun E _ _ => hf E)
abbrev Y_X1_lays : Yt := (yX1_lays, some (.int), 5, 132, [])
def f_X1_lays (G : Gt) (h : Hp) (t_0 : Option Nat) (i_1 : Int32) (i_2 : Int32) (K : Int32 → Hp → Prop) (X : Nat → Nat → Hp → Prop) : Prop :=
gR h t_0 1 0 fun r1 =>
rv h r1 10 (f_J2_get G h r1 i_1 (fun r11 h10 =>
(oc h10 r11 3 ∧ gR h10 r11 3 0 fun r12 =>
aI h10 r12 0 i_2 fun i24 =>
((¬ (i24 = (9 : Int32)) → f_X0_refuse G h10 (0 : Int32) (10 : Int32) (10 : Int32) (fun h26 =>
aI h26 r12 0 i_2 fun i32 =>
sI h26 r12 i_2 (i32 + (1 : Int32)) fun h37 =>
gI h37 t_0 1 5 fun i38 =>
pF h37 t_0 1 5 (.int (i38 + (1 : Int32))) fun h45 =>
aI h45 r12 0 i_2 fun i51 =>
K i51 h45) X) ∧
(i24 = (9 : Int32) → f_X0_refuse G h10 (1 : Int32) (10 : Int32) (10 : Int32) (fun h52 =>
aI h52 r12 0 i_2 fun i58 =>
sI h52 r12 i_2 (i58 + (1 : Int32)) fun h63 =>
gI h63 t_0 1 5 fun i64 =>
pF h63 t_0 1 5 (.int (i64 + (1 : Int32))) fun h71 =>
aI h71 r12 0 i_2 fun i77 =>
K i77 h71) X)))))
theorem m_X1_lays {G : Gt} {h : Hp} {a0 : Nat} {i_1 : Int32} {i_2 : Int32} {K : Int32 → Hp → Prop} {X : Nat → Nat → Hp → Prop} (hG : Base G) (hf : f_X1_lays G h (some a0) i_1 i_2 K X) : MM G Y_X1_lays cX1_lays 4 1 8 [.ref a0, .int i_1, .int i_2] h (kI K) X := by
  refine mm_of hG (by decide +kernel) rfl (ac_c rfl (ac_c rfl (ac_c rfl ac_nil))) (Nat.le_of_ble_eq_true rfl) (fun E _ _ => ?_)
  show V G E Y_X1_lays cX1_lays 4 (QM G E (kI K) X) h 1 8 0 [(0, .ref a0), (1, .int i_1), (2, .int i_2)] []
  unfold f_X1_lays at hf
  refine v_qload_n (r := (some a0)) (i := 0) dX1_lays_0 rfl rfl ?_
  replace hf := gR_e hf
  obtain ⟨w2, fs3, r1, hh4, hk5, hf⟩ := hf
  refine v_getf (T := TX1) (ci := 1) 0 dX1_lays_1 q188 rfl in_X1 (Nat.le_of_ble_eq_true rfl) (Or.inl rfl) hh4 hk5 ?_
  refine v_iload_n (i := 1) dX1_lays_4 rfl rfl ?_
  obtain ⟨a6, rfl⟩ := rv_s hf
  replace hf := rv_e hf
  obtain ⟨w7, fs8, hh9, hf⟩ := hf
  refine V.addK0 ?_
  refine V.addN0 ?_
  refine v_callV (mc := 0) (ms := 0) 1 dX1_lays_5 (m_J2_get hG hf) rfl hh9 rfl (lw_V q660 q661 q662 q92 q663) rfl (by decide +kernel) (by decide) rfl (cat_len (Nat.le_of_ble_eq_true rfl)) (kk_R fun r11 h10 hg => ?_) (fun _ _ _ hx => hx.elim)
  replace hf := hg
  clear hg
  obtain ⟨hoc, hf⟩ := hf
  refine v_castQS (r := r11) dX1_lays_8 q402 hoc rfl ?_
  obtain ⟨a13, rfl⟩ := gR_s hf
  replace hf := gR_e hf
  obtain ⟨w14, fs15, r12, hh16, hk17, hf⟩ := hf
  refine v_getfN (T := TX3) (ci := 3) 0 dX1_lays_11 q414 rfl in_X3 (Nat.le_of_ble_eq_true rfl) (Or.inl rfl) hh16 hk17 ?_
  refine v_qstore_n (i := 3) (r := r12) (lv' := [(0, va_rf (some a0)), (1, .int i_1), (2, .int i_2), (3, va_rf r12)]) dX1_lays_14 rfl (Nat.le_of_ble_eq_true rfl) rfl rfl ?_
  refine v_qload_n (r := r12) (i := 3) dX1_lays_15 rfl rfl ?_
  refine v_iload_n (i := 2) dX1_lays_16 rfl rfl ?_
  obtain ⟨a18, rfl⟩ := aI_s hf
  replace hf := aI_e hf
  obtain ⟨w19, N20, f21, hh22, hi23, i24, ei24, hf⟩ := hf
  refine v_iald dX1_lays_17 hh22 hi23 ?_
  rw [← ei24]
  refine v_bipush (v := 9) dX1_lays_18 (by decide) ?_
  refine v_icmp_ne 27 dX1_lays_20 (by decide) (fun c25 => ?_) (fun c25 => ?_)
  · replace hf := hf.1 c25
    refine v_iconst (v := 0) dX1_lays_27 (by decide) ?_
    refine v_bipush (v := 10) dX1_lays_28 (by decide) ?_
    refine v_bipush (v := 10) dX1_lays_30 (by decide) ?_
    refine v_callSN (mc := 1) (ms := 8) 3 dX1_lays_32 (m_X0_refuse hG hf) rfl (lw_meth q514) q88 q512 q513 rfl (by decide +kernel) (by decide) rfl (cat_len (Nat.le_of_ble_eq_true rfl)) (kk_V fun h26 hg => ?_) (fun _ _ _ hx => vx_leave (by decide) hx)
    replace hf := hg
    clear hg
    refine v_qload_n (r := (some a18)) (i := 3) dX1_lays_35 rfl rfl ?_
    refine v_iload_n (i := 2) dX1_lays_36 rfl rfl ?_
    refine v_dup2 dX1_lays_37 rfl (rf_cat _) ?_
    replace hf := aI_e hf
    obtain ⟨w27, N28, f29, hh30, hi31, i32, ei32, hf⟩ := hf
    refine v_iald dX1_lays_38 hh30 hi31 ?_
    rw [← ei32]
    refine v_iconst (v := 1) dX1_lays_39 (by decide) ?_
    refine v_iadd dX1_lays_40 ?_
    replace hf := sI_e hf
    obtain ⟨N33, f34, hh35, hi36, hf⟩ := hf
    refine v_iast dX1_lays_41 hh35 hi36 ?_
    obtain ⟨h37, eh37⟩ : ∃ z, z = hs h26 a18 (true, .inl (0, N33, .inl (upd f34 (i_2).toNatClampNeg (i32 + (1 : Int32))))) := ⟨_, rfl⟩
    try rw [← eh37] at hf
    rw [← eh37]
    refine v_qload_n (r := (some a0)) (i := 0) dX1_lays_42 rfl rfl ?_
    refine v_dup dX1_lays_43 (rf_cat _) ?_
    replace hf := gI_e hf
    obtain ⟨w39, fs40, i38, hh41, hk42, hf⟩ := hf
    refine v_getf (T := TX1) (ci := 1) 5 dX1_lays_44 q196 rfl in_X1 (Nat.le_of_ble_eq_true rfl) (Or.inl rfl) hh41 hk42 ?_
    refine v_iconst (v := 1) dX1_lays_47 (by decide) ?_
    refine v_iadd dX1_lays_48 ?_
    replace hf := pF_e hf
    obtain ⟨fs43, hh44, hf⟩ := hf
    refine v_putf (v := .int (i38 + (1 : Int32))) (T := TX1) (ci := 1) (ty := .int) 5 dX1_lays_49 q196 rfl in_X1 tyX1 tyX1_ok nmX1 (Nat.le_of_ble_eq_true rfl) (Or.inl rfl) rfl (by decide +kernel) rfl rfl hh44 ?_
    obtain ⟨h45, eh45⟩ : ∃ z, z = hs h37 a0 (true, .inr (1, fs43.set 5 (.int (i38 + (1 : Int32))))) := ⟨_, rfl⟩
    try rw [← eh45] at hf
    rw [← eh45]
    refine v_qload_n (r := (some a18)) (i := 3) dX1_lays_52 rfl rfl ?_
    refine v_iload_n (i := 2) dX1_lays_53 rfl rfl ?_
    replace hf := aI_e hf
    obtain ⟨w46, N47, f48, hh49, hi50, i51, ei51, hf⟩ := hf
    refine v_iald dX1_lays_54 hh49 hi50 ?_
    rw [← ei51]
    exact v_iret dX1_lays_55 rfl ⟨_, rfl, hf⟩
  · replace hf := hf.2 c25
    refine v_iconst (v := 1) dX1_lays_23 (by decide) ?_
    refine v_goto 28 dX1_lays_24 (by decide) ?_
    refine v_bipush (v := 10) dX1_lays_28 (by decide) ?_
    refine v_bipush (v := 10) dX1_lays_30 (by decide) ?_
    refine v_callSN (mc := 1) (ms := 8) 3 dX1_lays_32 (m_X0_refuse hG hf) rfl (lw_meth q514) q88 q512 q513 rfl (by decide +kernel) (by decide) rfl (cat_len (Nat.le_of_ble_eq_true rfl)) (kk_V fun h52 hg => ?_) (fun _ _ _ hx => vx_leave (by decide) hx)
    replace hf := hg
    clear hg
    refine v_qload_n (r := (some a18)) (i := 3) dX1_lays_35 rfl rfl ?_
    refine v_iload_n (i := 2) dX1_lays_36 rfl rfl ?_
    refine v_dup2 dX1_lays_37 rfl (rf_cat _) ?_
    replace hf := aI_e hf
    obtain ⟨w53, N54, f55, hh56, hi57, i58, ei58, hf⟩ := hf
    refine v_iald dX1_lays_38 hh56 hi57 ?_
    rw [← ei58]
    refine v_iconst (v := 1) dX1_lays_39 (by decide) ?_
    refine v_iadd dX1_lays_40 ?_
    replace hf := sI_e hf
    obtain ⟨N59, f60, hh61, hi62, hf⟩ := hf
    refine v_iast dX1_lays_41 hh61 hi62 ?_
    obtain ⟨h63, eh63⟩ : ∃ z, z = hs h52 a18 (true, .inl (0, N59, .inl (upd f60 (i_2).toNatClampNeg (i58 + (1 : Int32))))) := ⟨_, rfl⟩
    try rw [← eh63] at hf
    rw [← eh63]
    refine v_qload_n (r := (some a0)) (i := 0) dX1_lays_42 rfl rfl ?_
    refine v_dup dX1_lays_43 (rf_cat _) ?_
    replace hf := gI_e hf
    obtain ⟨w65, fs66, i64, hh67, hk68, hf⟩ := hf
    refine v_getf (T := TX1) (ci := 1) 5 dX1_lays_44 q196 rfl in_X1 (Nat.le_of_ble_eq_true rfl) (Or.inl rfl) hh67 hk68 ?_
    refine v_iconst (v := 1) dX1_lays_47 (by decide) ?_
    refine v_iadd dX1_lays_48 ?_
    replace hf := pF_e hf
    obtain ⟨fs69, hh70, hf⟩ := hf
    refine v_putf (v := .int (i64 + (1 : Int32))) (T := TX1) (ci := 1) (ty := .int) 5 dX1_lays_49 q196 rfl in_X1 tyX1 tyX1_ok nmX1 (Nat.le_of_ble_eq_true rfl) (Or.inl rfl) rfl (by decide +kernel) rfl rfl hh70 ?_
    obtain ⟨h71, eh71⟩ : ∃ z, z = hs h63 a0 (true, .inr (1, fs69.set 5 (.int (i64 + (1 : Int32))))) := ⟨_, rfl⟩
    try rw [← eh71] at hf
    rw [← eh71]
    refine v_qload_n (r := (some a18)) (i := 3) dX1_lays_52 rfl rfl ?_
    refine v_iload_n (i := 2) dX1_lays_53 rfl rfl ?_
    replace hf := aI_e hf
    obtain ⟨w72, N73, f74, hh75, hi76, i77, ei77, hf⟩ := hf
    refine v_iald dX1_lays_54 hh75 hi76 ?_
    rw [← ei77]
    exact v_iret dX1_lays_55 rfl ⟨_, rfl, hf⟩
abbrev Y_X1_oils : Yt := (yX1_oils, some (.int), 5, 132, [])
def f_X1_oils (G : Gt) (h : Hp) (t_0 : Option Nat) (i_1 : Int32) (i_2 : Int32) (K : Int32 → Hp → Prop) (X : Nat → Nat → Hp → Prop) : Prop :=
gR h t_0 1 0 fun r1 =>
rv h r1 10 (f_J2_get G h r1 i_1 (fun r11 h10 =>
(oc h10 r11 3 ∧ gI h10 r11 3 1 fun i12 =>
((i12 + i_2 ≤ (50 : Int32) → gI h10 r11 3 1 fun i19 =>
f_X0_refuse G h10 (0 : Int32) (10 : Int32) (i19 + i_2) (fun h24 =>
gI h24 r11 3 1 fun i25 =>
pF h24 r11 3 1 (.int (i25 + i_2)) fun h32 =>
gI h32 r11 3 1 fun i33 =>
K i33 h32) X) ∧
(¬ (i12 + i_2 ≤ (50 : Int32)) → gI h10 r11 3 1 fun i38 =>
f_X0_refuse G h10 (1 : Int32) (10 : Int32) (i38 + i_2) (fun h43 =>
gI h43 r11 3 1 fun i44 =>
pF h43 r11 3 1 (.int (i44 + i_2)) fun h51 =>
gI h51 r11 3 1 fun i52 =>
K i52 h51) X)))))
theorem m_X1_oils {G : Gt} {h : Hp} {a0 : Nat} {i_1 : Int32} {i_2 : Int32} {K : Int32 → Hp → Prop} {X : Nat → Nat → Hp → Prop} (hG : Base G) (hf : f_X1_oils G h (some a0) i_1 i_2 K X) : MM G Y_X1_oils cX1_oils 4 1 8 [.ref a0, .int i_1, .int i_2] h (kI K) X := by
  refine mm_of hG (by decide +kernel) rfl (ac_c rfl (ac_c rfl (ac_c rfl ac_nil))) (Nat.le_of_ble_eq_true rfl) (fun E _ _ => ?_)
  show V G E Y_X1_oils cX1_oils 4 (QM G E (kI K) X) h 1 8 0 [(0, .ref a0), (1, .int i_1), (2, .int i_2)] []
  unfold f_X1_oils at hf
  refine v_qload_n (r := (some a0)) (i := 0) dX1_oils_0 rfl rfl ?_
  replace hf := gR_e hf
  obtain ⟨w2, fs3, r1, hh4, hk5, hf⟩ := hf
  refine v_getf (T := TX1) (ci := 1) 0 dX1_oils_1 q188 rfl in_X1 (Nat.le_of_ble_eq_true rfl) (Or.inl rfl) hh4 hk5 ?_
  refine v_iload_n (i := 1) dX1_oils_4 rfl rfl ?_
  obtain ⟨a6, rfl⟩ := rv_s hf
  replace hf := rv_e hf
  obtain ⟨w7, fs8, hh9, hf⟩ := hf
  refine V.addK0 ?_
  refine V.addN0 ?_
  refine v_callV (mc := 0) (ms := 0) 1 dX1_oils_5 (m_J2_get hG hf) rfl hh9 rfl (lw_V q660 q661 q662 q92 q663) rfl (by decide +kernel) (by decide) rfl (cat_len (Nat.le_of_ble_eq_true rfl)) (kk_R fun r11 h10 hg => ?_) (fun _ _ _ hx => hx.elim)
  replace hf := hg
  clear hg
  obtain ⟨hoc, hf⟩ := hf
  refine v_castQS (r := r11) dX1_oils_8 q402 hoc rfl ?_
  refine v_qstore_n (i := 3) (r := r11) (lv' := [(0, va_rf (some a0)), (1, .int i_1), (2, .int i_2), (3, va_rf r11)]) dX1_oils_11 rfl (Nat.le_of_ble_eq_true rfl) rfl rfl ?_
  refine v_qload_n (r := r11) (i := 3) dX1_oils_12 rfl rfl ?_
  obtain ⟨a13, rfl⟩ := gI_s hf
  replace hf := gI_e hf
  obtain ⟨w14, fs15, i12, hh16, hk17, hf⟩ := hf
  refine v_getfN (T := TX3) (ci := 3) 1 dX1_oils_13 q416 rfl in_X3 (Nat.le_of_ble_eq_true rfl) (Or.inl rfl) hh16 hk17 ?_
  refine v_iload_n (i := 2) dX1_oils_16 rfl rfl ?_
  refine v_iadd dX1_oils_17 ?_
  refine v_bipush (v := 50) dX1_oils_18 (by decide) ?_
  refine v_icmp_le 27 dX1_oils_20 (by decide) (fun c18 => ?_) (fun c18 => ?_)
  · replace hf := hf.1 c18
    refine v_iconst (v := 0) dX1_oils_27 (by decide) ?_
    refine v_bipush (v := 10) dX1_oils_28 (by decide) ?_
    refine v_qload_n (r := (some a13)) (i := 3) dX1_oils_30 rfl rfl ?_
    replace hf := gI_e hf
    obtain ⟨w20, fs21, i19, hh22, hk23, hf⟩ := hf
    refine v_getfN (T := TX3) (ci := 3) 1 dX1_oils_31 q416 rfl in_X3 (Nat.le_of_ble_eq_true rfl) (Or.inl rfl) hh22 hk23 ?_
    refine v_iload_n (i := 2) dX1_oils_34 rfl rfl ?_
    refine v_iadd dX1_oils_35 ?_
    refine v_callSN (mc := 1) (ms := 8) 3 dX1_oils_36 (m_X0_refuse hG hf) rfl (lw_meth q514) q88 q512 q513 rfl (by decide +kernel) (by decide) rfl (cat_len (Nat.le_of_ble_eq_true rfl)) (kk_V fun h24 hg => ?_) (fun _ _ _ hx => vx_leave (by decide) hx)
    replace hf := hg
    clear hg
    refine v_qload_n (r := (some a13)) (i := 3) dX1_oils_39 rfl rfl ?_
    refine v_dup dX1_oils_40 (rf_cat _) ?_
    replace hf := gI_e hf
    obtain ⟨w26, fs27, i25, hh28, hk29, hf⟩ := hf
    refine v_getfN (T := TX3) (ci := 3) 1 dX1_oils_41 q416 rfl in_X3 (Nat.le_of_ble_eq_true rfl) (Or.inl rfl) hh28 hk29 ?_
    refine v_iload_n (i := 2) dX1_oils_44 rfl rfl ?_
    refine v_iadd dX1_oils_45 ?_
    replace hf := pF_e hf
    obtain ⟨fs30, hh31, hf⟩ := hf
    refine v_putfN (v := .int (i25 + i_2)) (T := TX3) (ci := 3) (ty := .int) 1 dX1_oils_46 q416 rfl in_X3 tyX3 tyX3_ok nmX3 (Nat.le_of_ble_eq_true rfl) (Or.inl rfl) rfl (by decide +kernel) rfl rfl hh31 ?_
    obtain ⟨h32, eh32⟩ : ∃ z, z = hs h24 a13 (true, .inr (3, fs30.set 1 (.int (i25 + i_2)))) := ⟨_, rfl⟩
    try rw [← eh32] at hf
    rw [← eh32]
    refine v_qload_n (r := (some a13)) (i := 3) dX1_oils_49 rfl rfl ?_
    replace hf := gI_e hf
    obtain ⟨w34, fs35, i33, hh36, hk37, hf⟩ := hf
    refine v_getfN (T := TX3) (ci := 3) 1 dX1_oils_50 q416 rfl in_X3 (Nat.le_of_ble_eq_true rfl) (Or.inl rfl) hh36 hk37 ?_
    exact v_iret dX1_oils_53 rfl ⟨_, rfl, hf⟩
  · replace hf := hf.2 c18
    refine v_iconst (v := 1) dX1_oils_23 (by decide) ?_
    refine v_goto 28 dX1_oils_24 (by decide) ?_
    refine v_bipush (v := 10) dX1_oils_28 (by decide) ?_
    refine v_qload_n (r := (some a13)) (i := 3) dX1_oils_30 rfl rfl ?_
    replace hf := gI_e hf
    obtain ⟨w39, fs40, i38, hh41, hk42, hf⟩ := hf
    refine v_getfN (T := TX3) (ci := 3) 1 dX1_oils_31 q416 rfl in_X3 (Nat.le_of_ble_eq_true rfl) (Or.inl rfl) hh41 hk42 ?_
    refine v_iload_n (i := 2) dX1_oils_34 rfl rfl ?_
    refine v_iadd dX1_oils_35 ?_
    refine v_callSN (mc := 1) (ms := 8) 3 dX1_oils_36 (m_X0_refuse hG hf) rfl (lw_meth q514) q88 q512 q513 rfl (by decide +kernel) (by decide) rfl (cat_len (Nat.le_of_ble_eq_true rfl)) (kk_V fun h43 hg => ?_) (fun _ _ _ hx => vx_leave (by decide) hx)
    replace hf := hg
    clear hg
    refine v_qload_n (r := (some a13)) (i := 3) dX1_oils_39 rfl rfl ?_
    refine v_dup dX1_oils_40 (rf_cat _) ?_
    replace hf := gI_e hf
    obtain ⟨w45, fs46, i44, hh47, hk48, hf⟩ := hf
    refine v_getfN (T := TX3) (ci := 3) 1 dX1_oils_41 q416 rfl in_X3 (Nat.le_of_ble_eq_true rfl) (Or.inl rfl) hh47 hk48 ?_
    refine v_iload_n (i := 2) dX1_oils_44 rfl rfl ?_
    refine v_iadd dX1_oils_45 ?_
    replace hf := pF_e hf
    obtain ⟨fs49, hh50, hf⟩ := hf
    refine v_putfN (v := .int (i44 + i_2)) (T := TX3) (ci := 3) (ty := .int) 1 dX1_oils_46 q416 rfl in_X3 tyX3 tyX3_ok nmX3 (Nat.le_of_ble_eq_true rfl) (Or.inl rfl) rfl (by decide +kernel) rfl rfl hh50 ?_
    obtain ⟨h51, eh51⟩ : ∃ z, z = hs h43 a13 (true, .inr (3, fs49.set 1 (.int (i44 + i_2)))) := ⟨_, rfl⟩
    try rw [← eh51] at hf
    rw [← eh51]
    refine v_qload_n (r := (some a13)) (i := 3) dX1_oils_49 rfl rfl ?_
    replace hf := gI_e hf
    obtain ⟨w53, fs54, i52, hh55, hk56, hf⟩ := hf
    refine v_getfN (T := TX3) (ci := 3) 1 dX1_oils_50 q416 rfl in_X3 (Nat.le_of_ble_eq_true rfl) (Or.inl rfl) hh55 hk56 ?_
    exact v_iret dX1_oils_53 rfl ⟨_, rfl, hf⟩
abbrev Y_X1_doorsOf : Yt := (yX1_doorsOf, some (.int), 3, 82, [])
def g_X1_doorsOf_0 (G : Gt) (E : Ev) (h : Hp) (k n : Nat) (a0 : Nat) (i_1 : Int32) (K : Int32 → Hp → Prop) : Prop :=
gR h (some a0) 1 1 fun r1 =>
rv h r1 10 (f_J2_iterator G h r1 (fun r11 h10 =>
V G E Y_X1_doorsOf cX1_doorsOf 5 (QM G E (kI K) xN) h10 k n 10 [(1, .int i_1), (2, .int (0 : Int32)), (3, va_rf r11)] []))
theorem s_X1_doorsOf_0 {G : Gt} {E : Ev} {h : Hp} {k0 n0 : Nat} {a0 : Nat} {i_1 : Int32} {K : Int32 → Hp → Prop} (hG : Base G) (hA : 1 ≤ k0) (hB : 4 ≤ n0) (hf : g_X1_doorsOf_0 G E h (k0 - 1) (n0 - 4) a0 i_1 K) : V G E Y_X1_doorsOf cX1_doorsOf 5 (QM G E (kI K) xN) h k0 n0 0 [(0, .ref a0), (1, .int i_1)] [] := by
  obtain ⟨k, hk9⟩ : ∃ z, z = k0 - 1 := ⟨_, rfl⟩
  obtain ⟨n, hn9⟩ : ∃ z, z = n0 - 4 := ⟨_, rfl⟩
  rw [← hk9, ← hn9] at hf
  refine V.weak (k' := k + 1) (n' := n + 4) ?_ (by omega) (by omega)
  unfold g_X1_doorsOf_0 at hf
  refine v_iconst (v := 0) dX1_doorsOf_0 (by decide) ?_
  refine v_istore_n (i := 2) (lv' := [(0, .ref a0), (1, .int i_1), (2, .int (0 : Int32))]) dX1_doorsOf_1 rfl (Nat.le_of_ble_eq_true rfl) rfl rfl ?_
  refine v_aload_n (i := 0) dX1_doorsOf_2 rfl rfl ?_
  replace hf := gR_e hf
  obtain ⟨w2, fs3, r1, hh4, hk5, hf⟩ := hf
  refine v_getf (T := TX1) (ci := 1) 1 dX1_doorsOf_3 q190 rfl in_X1 (Nat.le_of_ble_eq_true rfl) (Or.inl rfl) hh4 hk5 ?_
  obtain ⟨a6, rfl⟩ := rv_s hf
  replace hf := rv_e hf
  obtain ⟨w7, fs8, hh9, hf⟩ := hf
  refine v_callV (mc := 1) (ms := 4) 0 dX1_doorsOf_6 (m_J2_iterator hG hf) rfl hh9 rfl (lw_V q315 q316 q317 q92 q318) rfl (by decide +kernel) (by decide) rfl (cat_len (Nat.le_of_ble_eq_true rfl)) (kk_R fun r11 h10 hg => ?_) (fun _ _ _ hx => hx.elim)
  replace hf := hg
  clear hg
  refine v_qstore_n (i := 3) (r := r11) (lv' := [(0, .ref a0), (1, .int i_1), (2, .int (0 : Int32)), (3, va_rf r11)]) dX1_doorsOf_9 rfl (Nat.le_of_ble_eq_true rfl) rfl rfl ?_
  refine V.lp (lv' := [(1, .int i_1), (2, .int (0 : Int32)), (3, va_rf r11)]) [1, 2, 3] rfl ?_
  exact V.weak hf (by omega) (by omega)
def g_X1_doorsOf_10 (G : Gt) (E : Ev) (h : Hp) (k n : Nat) (i_1 : Int32) (i_2 : Int32) (r_3 : Option Nat) (K : Int32 → Hp → Prop) : Prop :=
rv h r_3 11 (f_J8_hasNext G h r_3 (fun i6 h5 =>
((i6 = 0 → K i_2 h5) ∧
(¬ (i6 = 0) → rv h5 r_3 11 (f_J8_next G h5 r_3 (fun r12 h11 =>
(oc h11 r12 5 ∧ rv h11 r12 5 (f_X5_isAt G h11 r12 i_1 (fun i18 h17 =>
((i18 = 0 → V G E Y_X1_doorsOf cX1_doorsOf 5 (QM G E (kI K) xN) h17 k n 10 [(1, .int i_1), (2, .int (i_2 + (0 : Int32))), (3, va_rf r_3)] []) ∧
(¬ (i18 = 0) → V G E Y_X1_doorsOf cX1_doorsOf 5 (QM G E (kI K) xN) h17 k n 10 [(1, .int i_1), (2, .int (i_2 + (1 : Int32))), (3, va_rf r_3)] [])))))))))))
theorem s_X1_doorsOf_10 {G : Gt} {E : Ev} {h : Hp} {k0 n0 : Nat} {i_1 : Int32} {i_2 : Int32} {r_3 : Option Nat} {K : Int32 → Hp → Prop} (hG : Base G) (hA : 0 ≤ k0) (hB : 0 ≤ n0) (hf : g_X1_doorsOf_10 G E h (k0 - 0) (n0 - 0) i_1 i_2 r_3 K) : V G E Y_X1_doorsOf cX1_doorsOf 5 (QM G E (kI K) xN) h k0 n0 10 [(1, .int i_1), (2, .int i_2), (3, va_rf r_3)] [] := by
  obtain ⟨k, hk9⟩ : ∃ z, z = k0 - 0 := ⟨_, rfl⟩
  obtain ⟨n, hn9⟩ : ∃ z, z = n0 - 0 := ⟨_, rfl⟩
  rw [← hk9, ← hn9] at hf
  refine V.weak (k' := k + 0) (n' := n + 0) ?_ (by omega) (by omega)
  unfold g_X1_doorsOf_10 at hf
  refine v_qload_n (r := r_3) (i := 3) dX1_doorsOf_10 rfl rfl ?_
  obtain ⟨a1, rfl⟩ := rv_s hf
  replace hf := rv_e hf
  obtain ⟨w2, fs3, hh4, hf⟩ := hf
  refine V.addK0 ?_
  refine V.addN0 ?_
  refine v_callF (mc := 0) (ms := 0) 0 dX1_doorsOf_11 (m_J8_hasNext hG hf) rfl hh4 rfl (lw_F q339 q343 q345 q99 q347) (fun C9 => v_Fw C9 (by decide) q341 q340 q346 q344 q342) rfl (by decide +kernel) (by decide) rfl (cat_len (Nat.le_of_ble_eq_true rfl)) (kk_I fun i6 h5 hg => ?_) (fun _ _ _ hx => hx.elim)
  replace hf := hg
  clear hg
  refine v_if_eq 50 dX1_doorsOf_16 (by decide) (fun c7 => ?_) (fun c7 => ?_)
  · replace hf := hf.1 c7
    refine v_iload_n (i := 2) dX1_doorsOf_50 rfl rfl ?_
    exact v_iret dX1_doorsOf_51 rfl ⟨_, rfl, hf⟩
  · replace hf := hf.2 c7
    refine v_qload_n (r := (some a1)) (i := 3) dX1_doorsOf_19 rfl rfl ?_
    replace hf := rv_e hf
    obtain ⟨w8, fs9, hh10, hf⟩ := hf
    refine V.addK0 ?_
    refine V.addN0 ?_
    refine v_callF (mc := 0) (ms := 0) 0 dX1_doorsOf_20 (m_J8_next hG hf) rfl hh10 rfl (lw_F q361 q364 q366 q99 q368) (fun C9 => v_Fw C9 (by decide) q363 q362 q367 q365 q342) rfl (by decide +kernel) (by decide) rfl (cat_len (Nat.le_of_ble_eq_true rfl)) (kk_R fun r12 h11 hg => ?_) (fun _ _ _ hx => hx.elim)
    replace hf := hg
    clear hg
    obtain ⟨hoc, hf⟩ := hf
    refine v_castQS (r := r12) dX1_doorsOf_25 q499 hoc rfl ?_
    refine v_qstore (i := 4) (r := r12) (lv' := [(1, .int i_1), (2, .int i_2), (3, va_rf (some a1)), (4, va_rf r12)]) dX1_doorsOf_28 (Nat.le_of_ble_eq_true rfl) rfl rfl ?_
    refine v_iload_n (i := 2) dX1_doorsOf_30 rfl rfl ?_
    refine v_qload (r := r12) (i := 4) dX1_doorsOf_31 rfl ?_
    refine v_iload_n (i := 1) dX1_doorsOf_33 rfl rfl ?_
    obtain ⟨a13, rfl⟩ := rv_s hf
    replace hf := rv_e hf
    obtain ⟨w14, fs15, hh16, hf⟩ := hf
    refine V.addK0 ?_
    refine V.addN0 ?_
    refine v_callV (mc := 0) (ms := 0) 1 dX1_doorsOf_34 (m_X5_isAt hG hf) rfl hh16 rfl (lw_V q744 q679 q680 q110 q681) rfl (by decide +kernel) (by decide) rfl (cat_len (Nat.le_of_ble_eq_true rfl)) (kk_I fun i18 h17 hg => ?_) (fun _ _ _ hx => hx.elim)
    replace hf := hg
    clear hg
    refine v_if_eq 44 dX1_doorsOf_37 (by decide) (fun c19 => ?_) (fun c19 => ?_)
    · replace hf := hf.1 c19
      refine v_iconst (v := 0) dX1_doorsOf_44 (by decide) ?_
      refine v_iadd dX1_doorsOf_45 ?_
      refine v_istore_n (i := 2) (lv' := [(1, .int i_1), (2, .int (i_2 + (0 : Int32))), (3, va_rf (some a1)), (4, va_rf (some a13))]) dX1_doorsOf_46 rfl (Nat.le_of_ble_eq_true rfl) rfl rfl ?_
      refine v_goto 10 dX1_doorsOf_47 (by decide) ?_
      refine V.lp (lv' := [(1, .int i_1), (2, .int (i_2 + (0 : Int32))), (3, va_rf (some a1))]) [0, 1, 2] rfl ?_
      exact V.weak hf (by omega) (by omega)
    · replace hf := hf.2 c19
      refine v_iconst (v := 1) dX1_doorsOf_40 (by decide) ?_
      refine v_goto 45 dX1_doorsOf_41 (by decide) ?_
      refine v_iadd dX1_doorsOf_45 ?_
      refine v_istore_n (i := 2) (lv' := [(1, .int i_1), (2, .int (i_2 + (1 : Int32))), (3, va_rf (some a1)), (4, va_rf (some a13))]) dX1_doorsOf_46 rfl (Nat.le_of_ble_eq_true rfl) rfl rfl ?_
      refine v_goto 10 dX1_doorsOf_47 (by decide) ?_
      refine V.lp (lv' := [(1, .int i_1), (2, .int (i_2 + (1 : Int32))), (3, va_rf (some a1))]) [0, 1, 2] rfl ?_
      exact V.weak hf (by omega) (by omega)
theorem b_X1_doorsOf {G : Gt} {h : Hp} {mc ms : Nat} {a0 : Nat} {i_1 : Int32} {K : Int32 → Hp → Prop} (hG : Base G) (hf : ∀ E : Ev, V G E Y_X1_doorsOf cX1_doorsOf 5 (QM G E (kI K) xN) h mc ms 0 [(0, .ref a0), (1, .int i_1)] []) : MM G Y_X1_doorsOf cX1_doorsOf 5 mc ms [.ref a0, .int i_1] h (kI K) xN := mm_of hG (by decide +kernel) rfl (ac_c rfl (ac_c rfl ac_nil)) (Nat.le_of_ble_eq_true rfl) (fun E _ _ => hf E)
abbrev Y_X1_goesOn : Yt := (yX1_goesOn, some (.boolean), 4, 104, [])
def f_X1_goesOn (G : Gt) (h : Hp) (t_0 : Option Nat) (r_1 : Option Nat) (r_2 : Option Nat) (K : Int32 → Hp → Prop) : Prop :=
gI h r_1 6 0 fun i1 =>
rv h r_2 5 (f_X5_isAt G h r_2 i1 (fun i12 h11 =>
((i12 = 0 → K (0 : Int32) h11) ∧
(¬ (i12 = 0) → gI h11 r_2 5 4 fun i14 =>
((¬ (i14 = 0) → K (0 : Int32) h11) ∧
(i14 = 0 → gI h11 r_1 6 1 fun i20 =>
gR h11 t_0 1 0 fun r25 =>
gI h11 r_1 6 0 fun i30 =>
rv h11 r25 10 (f_J2_get G h11 r25 i30 (fun r40 h39 =>
(oc h39 r40 3 ∧ rv h39 r40 3 (f_X3_steps G h39 r40 (fun i46 h45 =>
rv h45 r_2 5 (f_X5_isFor G h45 r_2 (i20 + i46) (fun i51 h50 =>
((i51 = 0 → K (0 : Int32) h50) ∧
(¬ (i51 = 0) → K (1 : Int32) h50)))))))))))))))
theorem m_X1_goesOn {G : Gt} {h : Hp} {a0 : Nat} {r_1 : Option Nat} {r_2 : Option Nat} {K : Int32 → Hp → Prop} (hG : Base G) (hf : f_X1_goesOn G h (some a0) r_1 r_2 K) : MM G Y_X1_goesOn cX1_goesOn 3 0 0 [.ref a0, va_rf r_1, va_rf r_2] h (kI K) xN := by
  refine mm_of hG (by decide +kernel) rfl (ac_c rfl (ac_c (rf_cat _) (ac_c (rf_cat _) ac_nil))) (Nat.le_of_ble_eq_true rfl) (fun E _ _ => ?_)
  show V G E Y_X1_goesOn cX1_goesOn 3 (QM G E (kI K) xN) h 0 0 0 [(0, .ref a0), (1, va_rf r_1), (2, va_rf r_2)] []
  unfold f_X1_goesOn at hf
  refine v_qload_n (r := r_2) (i := 2) dX1_goesOn_0 rfl rfl ?_
  refine v_qload_n (r := r_1) (i := 1) dX1_goesOn_1 rfl rfl ?_
  obtain ⟨a2, rfl⟩ := gI_s hf
  replace hf := gI_e hf
  obtain ⟨w3, fs4, i1, hh5, hk6, hf⟩ := hf
  refine v_getfN (T := TX6) (ci := 6) 0 dX1_goesOn_2 q893 rfl in_X6 (Nat.le_of_ble_eq_true rfl) (Or.inl rfl) hh5 hk6 ?_
  obtain ⟨a7, rfl⟩ := rv_s hf
  replace hf := rv_e hf
  obtain ⟨w8, fs9, hh10, hf⟩ := hf
  refine V.addK0 ?_
  refine V.addN0 ?_
  refine v_callV (mc := 0) (ms := 0) 1 dX1_goesOn_5 (m_X5_isAt hG hf) rfl hh10 rfl (lw_V q744 q679 q680 q110 q681) rfl (by decide +kernel) (by decide) rfl (cat_len (Nat.le_of_ble_eq_true rfl)) (kk_I fun i12 h11 hg => ?_) (fun _ _ _ hx => hx.elim)
  replace hf := hg
  clear hg
  refine v_if_eq 51 dX1_goesOn_8 (by decide) (fun c13 => ?_) (fun c13 => ?_)
  · replace hf := hf.1 c13
    refine v_iconst (v := 0) dX1_goesOn_51 (by decide) ?_
    exact v_zret dX1_goesOn_52 rfl (by decide) ⟨_, rfl, hf⟩
  · replace hf := hf.2 c13
    refine v_qload_n (r := (some a7)) (i := 2) dX1_goesOn_11 rfl rfl ?_
    replace hf := gI_e hf
    obtain ⟨w15, fs16, i14, hh17, hk18, hf⟩ := hf
    refine v_getfN (T := TX5) (ci := 5) 4 dX1_goesOn_12 q700 rfl in_X5 (Nat.le_of_ble_eq_true rfl) (Or.inl rfl) hh17 hk18 ?_
    refine v_if_ne 51 dX1_goesOn_15 (by decide) (fun c19 => ?_) (fun c19 => ?_)
    · replace hf := hf.1 c19
      refine v_iconst (v := 0) dX1_goesOn_51 (by decide) ?_
      exact v_zret dX1_goesOn_52 rfl (by decide) ⟨_, rfl, hf⟩
    · replace hf := hf.2 c19
      refine v_qload_n (r := (some a7)) (i := 2) dX1_goesOn_18 rfl rfl ?_
      refine v_qload_n (r := (some a2)) (i := 1) dX1_goesOn_19 rfl rfl ?_
      replace hf := gI_e hf
      obtain ⟨w21, fs22, i20, hh23, hk24, hf⟩ := hf
      refine v_getfN (T := TX6) (ci := 6) 1 dX1_goesOn_20 q895 rfl in_X6 (Nat.le_of_ble_eq_true rfl) (Or.inl rfl) hh23 hk24 ?_
      refine v_qload_n (r := (some a0)) (i := 0) dX1_goesOn_23 rfl rfl ?_
      replace hf := gR_e hf
      obtain ⟨w26, fs27, r25, hh28, hk29, hf⟩ := hf
      refine v_getf (T := TX1) (ci := 1) 0 dX1_goesOn_24 q188 rfl in_X1 (Nat.le_of_ble_eq_true rfl) (Or.inl rfl) hh28 hk29 ?_
      refine v_qload_n (r := (some a2)) (i := 1) dX1_goesOn_27 rfl rfl ?_
      replace hf := gI_e hf
      obtain ⟨w31, fs32, i30, hh33, hk34, hf⟩ := hf
      refine v_getfN (T := TX6) (ci := 6) 0 dX1_goesOn_28 q893 rfl in_X6 (Nat.le_of_ble_eq_true rfl) (Or.inl rfl) hh33 hk34 ?_
      obtain ⟨a35, rfl⟩ := rv_s hf
      replace hf := rv_e hf
      obtain ⟨w36, fs37, hh38, hf⟩ := hf
      refine V.addK0 ?_
      refine V.addN0 ?_
      refine v_callV (mc := 0) (ms := 0) 1 dX1_goesOn_31 (m_J2_get hG hf) rfl hh38 rfl (lw_V q660 q661 q662 q92 q663) rfl (by decide +kernel) (by decide) rfl (cat_len (Nat.le_of_ble_eq_true rfl)) (kk_R fun r40 h39 hg => ?_) (fun _ _ _ hx => hx.elim)
      replace hf := hg
      clear hg
      obtain ⟨hoc, hf⟩ := hf
      refine v_castQS (r := r40) dX1_goesOn_34 q402 hoc rfl ?_
      obtain ⟨a41, rfl⟩ := rv_s hf
      replace hf := rv_e hf
      obtain ⟨w42, fs43, hh44, hf⟩ := hf
      refine V.addK0 ?_
      refine V.addN0 ?_
      refine v_callV (mc := 0) (ms := 0) 0 dX1_goesOn_37 (m_X3_steps hG hf) rfl hh44 rfl (lw_V q1575 q1576 q1577 q100 q1578) rfl (by decide +kernel) (by decide) rfl (cat_len (Nat.le_of_ble_eq_true rfl)) (kk_I fun i46 h45 hg => ?_) (fun _ _ _ hx => hx.elim)
      replace hf := hg
      clear hg
      refine v_iadd dX1_goesOn_40 ?_
      replace hf := rv_e hf
      obtain ⟨w47, fs48, hh49, hf⟩ := hf
      refine V.addK0 ?_
      refine V.addN0 ?_
      refine v_callV (mc := 0) (ms := 0) 1 dX1_goesOn_41 (m_X5_isFor hG hf) rfl hh49 rfl (lw_V q1583 q1584 q1585 q110 q1586) rfl (by decide +kernel) (by decide) rfl (cat_len (Nat.le_of_ble_eq_true rfl)) (kk_I fun i51 h50 hg => ?_) (fun _ _ _ hx => hx.elim)
      replace hf := hg
      clear hg
      refine v_if_eq 51 dX1_goesOn_44 (by decide) (fun c52 => ?_) (fun c52 => ?_)
      · replace hf := hf.1 c52
        refine v_iconst (v := 0) dX1_goesOn_51 (by decide) ?_
        exact v_zret dX1_goesOn_52 rfl (by decide) ⟨_, rfl, hf⟩
      · replace hf := hf.2 c52
        refine v_iconst (v := 1) dX1_goesOn_47 (by decide) ?_
        refine v_goto 52 dX1_goesOn_48 (by decide) ?_
        exact v_zret dX1_goesOn_52 rfl (by decide) ⟨_, rfl, hf⟩
abbrev Y_X1_behind : Yt := (yX1_behind, some (.object "ParityMaze$Spot"), 4, 104, [])
def f_X1_behind (G : Gt) (h : Hp) (t_0 : Option Nat) (r_1 : Option Nat) (r_2 : Option Nat) (K : Option Nat → Hp → Prop) : Prop :=
gR h t_0 1 0 fun r1 =>
gI h r_1 6 0 fun i6 =>
rv h r1 10 (f_J2_get G h r1 i6 (fun r17 h16 =>
(oc h16 r17 3 ∧ rv h16 r17 3 (f_X3_steps G h16 r17 (fun i23 h22 =>
rv h22 r_1 6 (f_X6_behind G h22 r_1 r_2 i23 (fun r28 h27 =>
K r28 h27)))))))
theorem m_X1_behind {G : Gt} {h : Hp} {a0 : Nat} {r_1 : Option Nat} {r_2 : Option Nat} {K : Option Nat → Hp → Prop} (hG : Base G) (hf : f_X1_behind G h (some a0) r_1 r_2 K) : MM G Y_X1_behind cX1_behind 3 1 2 [.ref a0, va_rf r_1, va_rf r_2] h (kR K) xN := by
  refine mm_of hG (by decide +kernel) rfl (ac_c rfl (ac_c (rf_cat _) (ac_c (rf_cat _) ac_nil))) (Nat.le_of_ble_eq_true rfl) (fun E _ _ => ?_)
  show V G E Y_X1_behind cX1_behind 3 (QM G E (kR K) xN) h 1 2 0 [(0, .ref a0), (1, va_rf r_1), (2, va_rf r_2)] []
  unfold f_X1_behind at hf
  refine v_qload_n (r := r_1) (i := 1) dX1_behind_0 rfl rfl ?_
  refine v_qload_n (r := r_2) (i := 2) dX1_behind_1 rfl rfl ?_
  refine v_qload_n (r := (some a0)) (i := 0) dX1_behind_2 rfl rfl ?_
  replace hf := gR_e hf
  obtain ⟨w2, fs3, r1, hh4, hk5, hf⟩ := hf
  refine v_getf (T := TX1) (ci := 1) 0 dX1_behind_3 q188 rfl in_X1 (Nat.le_of_ble_eq_true rfl) (Or.inl rfl) hh4 hk5 ?_
  refine v_qload_n (r := r_1) (i := 1) dX1_behind_6 rfl rfl ?_
  obtain ⟨a7, rfl⟩ := gI_s hf
  replace hf := gI_e hf
  obtain ⟨w8, fs9, i6, hh10, hk11, hf⟩ := hf
  refine v_getfN (T := TX6) (ci := 6) 0 dX1_behind_7 q893 rfl in_X6 (Nat.le_of_ble_eq_true rfl) (Or.inl rfl) hh10 hk11 ?_
  obtain ⟨a12, rfl⟩ := rv_s hf
  replace hf := rv_e hf
  obtain ⟨w13, fs14, hh15, hf⟩ := hf
  refine V.addK0 ?_
  refine V.addN0 ?_
  refine v_callV (mc := 0) (ms := 0) 1 dX1_behind_10 (m_J2_get hG hf) rfl hh15 rfl (lw_V q660 q661 q662 q92 q663) rfl (by decide +kernel) (by decide) rfl (cat_len (Nat.le_of_ble_eq_true rfl)) (kk_R fun r17 h16 hg => ?_) (fun _ _ _ hx => hx.elim)
  replace hf := hg
  clear hg
  obtain ⟨hoc, hf⟩ := hf
  refine v_castQS (r := r17) dX1_behind_13 q402 hoc rfl ?_
  obtain ⟨a18, rfl⟩ := rv_s hf
  replace hf := rv_e hf
  obtain ⟨w19, fs20, hh21, hf⟩ := hf
  refine V.addK0 ?_
  refine V.addN0 ?_
  refine v_callV (mc := 0) (ms := 0) 0 dX1_behind_16 (m_X3_steps hG hf) rfl hh21 rfl (lw_V q1575 q1576 q1577 q100 q1578) rfl (by decide +kernel) (by decide) rfl (cat_len (Nat.le_of_ble_eq_true rfl)) (kk_I fun i23 h22 hg => ?_) (fun _ _ _ hx => hx.elim)
  replace hf := hg
  clear hg
  replace hf := rv_e hf
  obtain ⟨w24, fs25, hh26, hf⟩ := hf
  refine v_callV (mc := 1) (ms := 2) 2 dX1_behind_19 (m_X6_behind hG hf) rfl hh26 rfl (lw_V q1591 q1592 q1593 q123 q1594) rfl (by decide +kernel) (by decide) rfl (cat_len (Nat.le_of_ble_eq_true rfl)) (kk_R fun r28 h27 hg => ?_) (fun _ _ _ hx => hx.elim)
  replace hf := hg
  clear hg
  exact v_qret (r := r28) dX1_behind_22 rfl (Or.inl ⟨_, rfl⟩) ⟨_, rfl, hf⟩
abbrev Y_J25_intValue : Yt := (yJ25_intValue, some (.int), 1, 40, [])
def f_J25_intValue (G : Gt) (h : Hp) (t_0 : Option Nat) (K : Int32 → Hp → Prop) : Prop :=
gI h t_0 18 0 fun i1 =>
K i1 h
theorem m_J25_intValue {G : Gt} {h : Hp} {a0 : Nat} {K : Int32 → Hp → Prop} (hG : Base G) (hf : f_J25_intValue G h (some a0) K) : MM G Y_J25_intValue cJ25_intValue 1 0 0 [.ref a0] h (kI K) xN := by
  refine mm_of hG (by decide +kernel) rfl (ac_c rfl ac_nil) (Nat.le_of_ble_eq_true rfl) (fun E _ _ => ?_)
  show V G E Y_J25_intValue cJ25_intValue 1 (QM G E (kI K) xN) h 0 0 0 [(0, .ref a0)] []
  unfold f_J25_intValue at hf
  refine v_qload_n (r := (some a0)) (i := 0) dJ25_intValue_0 rfl rfl ?_
  replace hf := gI_e hf
  obtain ⟨w2, fs3, i1, hh4, hk5, hf⟩ := hf
  refine v_getf (T := TJ25) (ci := 18) 0 dJ25_intValue_1 q1638 rfl in_J25 (Nat.le_of_ble_eq_true rfl) (Or.inl rfl) hh4 hk5 ?_
  exact v_iret dJ25_intValue_4 rfl ⟨_, rfl, hf⟩
abbrev Y_X1_fewest : Yt := (yX1_fewest, some (.int), 5, 130, [])
def g_X1_fewest_0 (G : Gt) (E : Ev) (h : Hp) (k n : Nat) (r_0 : Option Nat) (i_1 : Int32) (K : Int32 → Hp → Prop) : Prop :=
V G E Y_X1_fewest cX1_fewest 5 (QM G E (kI K) xN) h k n 6 [(0, va_rf r_0), (1, .int i_1), (2, .int (10000 : Int32)), (3, .int (0 : Int32))] []
theorem s_X1_fewest_0 {G : Gt} {E : Ev} {h : Hp} {k0 n0 : Nat} {r_0 : Option Nat} {i_1 : Int32} {K : Int32 → Hp → Prop} (hG : Base G) (hA : 0 ≤ k0) (hB : 0 ≤ n0) (hf : g_X1_fewest_0 G E h (k0 - 0) (n0 - 0) r_0 i_1 K) : V G E Y_X1_fewest cX1_fewest 5 (QM G E (kI K) xN) h k0 n0 0 [(0, va_rf r_0), (1, .int i_1)] [] := by
  obtain ⟨k, hk9⟩ : ∃ z, z = k0 - 0 := ⟨_, rfl⟩
  obtain ⟨n, hn9⟩ : ∃ z, z = n0 - 0 := ⟨_, rfl⟩
  rw [← hk9, ← hn9] at hf
  refine V.weak (k' := k + 0) (n' := n + 0) ?_ (by omega) (by omega)
  unfold g_X1_fewest_0 at hf
  refine v_sipush (v := 10000) dX1_fewest_0 (by decide) ?_
  refine v_istore_n (i := 2) (lv' := [(0, va_rf r_0), (1, .int i_1), (2, .int (10000 : Int32))]) dX1_fewest_3 rfl (Nat.le_of_ble_eq_true rfl) rfl rfl ?_
  refine v_iconst (v := 0) dX1_fewest_4 (by decide) ?_
  refine v_istore_n (i := 3) (lv' := [(0, va_rf r_0), (1, .int i_1), (2, .int (10000 : Int32)), (3, .int (0 : Int32))]) dX1_fewest_5 rfl (Nat.le_of_ble_eq_true rfl) rfl rfl ?_
  exact V.weak hf (by omega) (by omega)
def g_X1_fewest_6 (G : Gt) (E : Ev) (h : Hp) (k n : Nat) (r_0 : Option Nat) (i_1 : Int32) (i_2 : Int32) (i_3 : Int32) (K : Int32 → Hp → Prop) : Prop :=
(((2 : Int32) ≤ i_3 → ((¬ (i_2 = (10000 : Int32)) → K i_2 h) ∧
(i_2 = (10000 : Int32) → K (-1015 : Int32) h))) ∧
(¬ ((2 : Int32) ≤ i_3) → nO h 6 [.int 0, .int 0] fun a3 h4 =>
f_X6_init G h4 (some a3) i_1 i_3 (fun h5 =>
rv h5 r_0 17 (dR G Y_J22_get cJ22_get 3 [va_rf r_0, .ref a3] h5 k n (fun r11 h10 k14 n15 =>
(oc h10 r11 18 ∧ ((r11 = none → V G E Y_X1_fewest cX1_fewest 5 (QM G E (kI K) xN) h10 k14 n15 6 [(0, va_rf r_0), (1, .int i_1), (2, .int i_2), (3, .int (i_3 + (1 : Int32)))] []) ∧
(∀ y16, r11 = some y16 → rv h10 r11 18 (f_J25_intValue G h10 r11 (fun i22 h21 =>
f_J10_min G h21 i_2 i22 (fun i24 h23 =>
V G E Y_X1_fewest cX1_fewest 5 (QM G E (kI K) xN) h23 k14 n15 6 [(0, va_rf r_0), (1, .int i_1), (2, .int i24), (3, .int (i_3 + (1 : Int32)))] []))))))) xN))))
theorem s_X1_fewest_6 {G : Gt} {E : Ev} {h : Hp} {k0 n0 : Nat} {r_0 : Option Nat} {i_1 : Int32} {i_2 : Int32} {i_3 : Int32} {K : Int32 → Hp → Prop} (hG : Base G) (hA : 1 ≤ k0) (hB : 2 ≤ n0) (hf : g_X1_fewest_6 G E h (k0 - 1) (n0 - 2) r_0 i_1 i_2 i_3 K) : V G E Y_X1_fewest cX1_fewest 5 (QM G E (kI K) xN) h k0 n0 6 [(0, va_rf r_0), (1, .int i_1), (2, .int i_2), (3, .int i_3)] [] := by
  obtain ⟨k, hk9⟩ : ∃ z, z = k0 - 1 := ⟨_, rfl⟩
  obtain ⟨n, hn9⟩ : ∃ z, z = n0 - 2 := ⟨_, rfl⟩
  rw [← hk9, ← hn9] at hf
  refine V.weak (k' := k + 1) (n' := n + 2) ?_ (by omega) (by omega)
  unfold g_X1_fewest_6 at hf
  refine v_iload_n (i := 3) dX1_fewest_6 rfl rfl ?_
  refine v_iconst (v := 2) dX1_fewest_7 (by decide) ?_
  refine v_icmp_ge 54 dX1_fewest_8 (by decide) (fun c1 => ?_) (fun c1 => ?_)
  · replace hf := hf.1 c1
    refine v_iload_n (i := 2) dX1_fewest_54 rfl rfl ?_
    refine v_sipush (v := 10000) dX1_fewest_55 (by decide) ?_
    refine v_icmp_ne 67 dX1_fewest_58 (by decide) (fun c2 => ?_) (fun c2 => ?_)
    · replace hf := hf.1 c2
      refine v_iload_n (i := 2) dX1_fewest_67 rfl rfl ?_
      exact v_iret dX1_fewest_68 rfl ⟨_, rfl, hf⟩
    · replace hf := hf.2 c2
      refine v_sipush (v := -1015) dX1_fewest_61 (by decide) ?_
      refine v_goto 68 dX1_fewest_64 (by decide) ?_
      exact v_iret dX1_fewest_68 rfl ⟨_, rfl, hf⟩
  · replace hf := hf.2 c1
    refine v_qload_n (r := r_0) (i := 0) dX1_fewest_11 rfl rfl ?_
    refine v_new (N := 2) (fs := [.int 0, .int 0]) (ci := 6) dX1_fewest_12 q886 q887 q123 rfl in_X6 tyX6 tyX6_ok rfl (fun a3 ha3 => ?_)
    replace hf := hf a3 ha3
    obtain ⟨h4, eh4⟩ : ∃ z, z = hs h a3 (true, .inr (6, [.int 0, .int 0])) := ⟨_, rfl⟩
    try rw [← eh4] at hf
    rw [← eh4]
    refine v_dup dX1_fewest_15 rfl ?_
    refine v_iload_n (i := 1) dX1_fewest_16 rfl rfl ?_
    refine v_iload_n (i := 3) dX1_fewest_17 rfl rfl ?_
    refine V.addK0 ?_
    refine V.addN0 ?_
    refine v_callI (mc := 0) (ms := 0) 2 dX1_fewest_18 (m_X6_init hG hf) rfl (lw_meth q890) rfl q123 q888 q889 rfl rfl (by decide +kernel) (by decide) rfl (cat_len (Nat.le_of_ble_eq_true rfl)) (kk_V fun h5 hg => ?_) (fun _ _ _ hx => hx.elim)
    replace hf := hg
    clear hg
    obtain ⟨a6, rfl⟩ := rv_s hf
    replace hf := rv_e hf
    obtain ⟨w7, fs8, hh9, hf⟩ := hf
    obtain ⟨mc12, ms13, hkmc12, hnms13, hM⟩ := hf
    refine V.weak (k' := ((k - mc12) + 0) + mc12) (n' := ((n - ms13) + 0) + ms13) ?_ (by omega) (by omega)
    refine v_callV 1 dX1_fewest_21 hM rfl hh9 rfl (lw_V q1651 q1652 q1653 q117 q1654) rfl (by decide +kernel) (by decide) rfl (cat_len (Nat.le_of_ble_eq_true rfl)) (kk_R fun r11 h10 hg => ?_) (fun _ _ _ hx => hx.elim)
    have hf := hg
    clear hg
    obtain ⟨hoc, hf⟩ := hf
    refine v_castQS (r := r11) dX1_fewest_24 q1646 hoc rfl ?_
    refine v_qstore (i := 4) (r := r11) (lv' := [(0, va_rf (some a6)), (1, .int i_1), (2, .int i_2), (3, .int i_3), (4, va_rf r11)]) dX1_fewest_27 (Nat.le_of_ble_eq_true rfl) rfl rfl ?_
    refine v_qload (r := r11) (i := 4) dX1_fewest_29 rfl ?_
    refine v_ifnonnull 38 dX1_fewest_31 (by decide) (fun y16 e17 => ?_) (fun e17 => ?_)
    · replace hf := hf.2 y16 e17
      subst e17
      refine v_iload_n (i := 2) dX1_fewest_38 rfl rfl ?_
      refine v_qload (r := (some y16)) (i := 4) dX1_fewest_39 rfl ?_
      replace hf := rv_e hf
      obtain ⟨w18, fs19, hh20, hf⟩ := hf
      refine V.addK0 ?_
      refine V.addN0 ?_
      refine v_callV (mc := 0) (ms := 0) 0 dX1_fewest_41 (m_J25_intValue hG hf) rfl hh20 rfl (lw_V q1660 q1424 q1425 q120 q1426) rfl (by decide +kernel) (by decide) rfl (cat_len (Nat.le_of_ble_eq_true rfl)) (kk_I fun i22 h21 hg => ?_) (fun _ _ _ hx => hx.elim)
      replace hf := hg
      clear hg
      refine V.addK0 ?_
      refine V.addN0 ?_
      refine v_callS (mc := 0) (ms := 0) 2 dX1_fewest_44 (m_J10_min hG hf) rfl (lw_S q1661 q493 q102 q494) rfl (by decide +kernel) (by decide) rfl (cat_len (Nat.le_of_ble_eq_true rfl)) (kk_I fun i24 h23 hg => ?_) (fun _ _ _ hx => hx.elim)
      replace hf := hg
      clear hg
      refine v_istore_n (i := 2) (lv' := [(0, va_rf (some a6)), (1, .int i_1), (2, .int i24), (3, .int i_3), (4, va_rf (some y16))]) dX1_fewest_47 rfl (Nat.le_of_ble_eq_true rfl) rfl rfl ?_
      refine v_iinc (i := 3) (v := i_3 + (1 : Int32)) (lv' := [(0, va_rf (some a6)), (1, .int i_1), (2, .int i24), (3, .int (i_3 + (1 : Int32))), (4, va_rf (some y16))]) dX1_fewest_48 rfl rfl (Nat.le_of_ble_eq_true rfl) rfl rfl ?_
      refine v_goto 6 dX1_fewest_51 (by decide) ?_
      refine V.lp (lv' := [(0, va_rf (some a6)), (1, .int i_1), (2, .int i24), (3, .int (i_3 + (1 : Int32)))]) [0, 1, 2, 3] rfl ?_
      exact V.weak hf (by omega) (by omega)
    · replace hf := hf.1 e17
      subst e17
      refine v_iload_n (i := 2) dX1_fewest_34 rfl rfl ?_
      refine v_goto 47 dX1_fewest_35 (by decide) ?_
      refine v_istore_n (i := 2) (lv' := [(0, va_rf (some a6)), (1, .int i_1), (2, .int i_2), (3, .int i_3), (4, va_rf none)]) dX1_fewest_47 rfl (Nat.le_of_ble_eq_true rfl) rfl rfl ?_
      refine v_iinc (i := 3) (v := i_3 + (1 : Int32)) (lv' := [(0, va_rf (some a6)), (1, .int i_1), (2, .int i_2), (3, .int (i_3 + (1 : Int32))), (4, va_rf none)]) dX1_fewest_48 rfl rfl (Nat.le_of_ble_eq_true rfl) rfl rfl ?_
      refine v_goto 6 dX1_fewest_51 (by decide) ?_
      refine V.lp (lv' := [(0, va_rf (some a6)), (1, .int i_1), (2, .int i_2), (3, .int (i_3 + (1 : Int32)))]) [0, 1, 2, 3] rfl ?_
      exact V.weak hf (by omega) (by omega)
theorem b_X1_fewest {G : Gt} {h : Hp} {mc ms : Nat} {r_0 : Option Nat} {i_1 : Int32} {K : Int32 → Hp → Prop} (hG : Base G) (hf : ∀ E : Ev, V G E Y_X1_fewest cX1_fewest 5 (QM G E (kI K) xN) h mc ms 0 [(0, va_rf r_0), (1, .int i_1)] []) : MM G Y_X1_fewest cX1_fewest 5 mc ms [va_rf r_0, .int i_1] h (kI K) xN := mm_of hG (by decide +kernel) rfl (ac_c (rf_cat _) (ac_c rfl ac_nil)) (Nat.le_of_ble_eq_true rfl) (fun E _ _ => hf E)
abbrev Y_X1_isDoor : Yt := (yX1_isDoor, some (.boolean), 2, 62, [])
def f_X1_isDoor (G : Gt) (h : Hp) (t_0 : Option Nat) (i_1 : Int32) (K : Int32 → Hp → Prop) : Prop :=
gR h t_0 1 1 fun r1 =>
rv h r1 10 (f_J2_size G h r1 (fun i11 h10 =>
f_X0_isIn G h10 i_1 (0 : Int32) (i11 - (1 : Int32)) (fun i13 h12 =>
(narrow .boolean (.int i13) = .int i13 ∧ K i13 h12))))
theorem m_X1_isDoor {G : Gt} {h : Hp} {a0 : Nat} {i_1 : Int32} {K : Int32 → Hp → Prop} (hG : Base G) (hf : f_X1_isDoor G h (some a0) i_1 K) : MM G Y_X1_isDoor cX1_isDoor 2 0 0 [.ref a0, .int i_1] h (kI K) xN := by
  refine mm_of hG (by decide +kernel) rfl (ac_c rfl (ac_c rfl ac_nil)) (Nat.le_of_ble_eq_true rfl) (fun E _ _ => ?_)
  show V G E Y_X1_isDoor cX1_isDoor 2 (QM G E (kI K) xN) h 0 0 0 [(0, .ref a0), (1, .int i_1)] []
  unfold f_X1_isDoor at hf
  refine v_iload_n (i := 1) dX1_isDoor_0 rfl rfl ?_
  refine v_iconst (v := 0) dX1_isDoor_1 (by decide) ?_
  refine v_qload_n (r := (some a0)) (i := 0) dX1_isDoor_2 rfl rfl ?_
  replace hf := gR_e hf
  obtain ⟨w2, fs3, r1, hh4, hk5, hf⟩ := hf
  refine v_getf (T := TX1) (ci := 1) 1 dX1_isDoor_3 q190 rfl in_X1 (Nat.le_of_ble_eq_true rfl) (Or.inl rfl) hh4 hk5 ?_
  obtain ⟨a6, rfl⟩ := rv_s hf
  replace hf := rv_e hf
  obtain ⟨w7, fs8, hh9, hf⟩ := hf
  refine V.addK0 ?_
  refine V.addN0 ?_
  refine v_callV (mc := 0) (ms := 0) 0 dX1_isDoor_6 (m_J2_size hG hf) rfl hh9 rfl (lw_V q508 q509 q510 q92 q511) rfl (by decide +kernel) (by decide) rfl (cat_len (Nat.le_of_ble_eq_true rfl)) (kk_I fun i11 h10 hg => ?_) (fun _ _ _ hx => hx.elim)
  replace hf := hg
  clear hg
  refine v_iconst (v := 1) dX1_isDoor_9 (by decide) ?_
  refine v_isub dX1_isDoor_10 ?_
  refine V.addK0 ?_
  refine V.addN0 ?_
  refine v_callSN (mc := 0) (ms := 0) 3 dX1_isDoor_11 (m_X0_isIn hG hf) rfl (lw_meth q308) q88 q642 q307 rfl (by decide +kernel) (by decide) rfl (cat_len (Nat.le_of_ble_eq_true rfl)) (kk_I fun i13 h12 hg => ?_) (fun _ _ _ hx => hx.elim)
  replace hf := hg
  clear hg
  exact v_zret dX1_isDoor_14 rfl hf.1 ⟨_, rfl, hf.2⟩
abbrev Y_X1_mustBeAt : Yt := (yX1_mustBeAt, none, 5, 132, [])
def f_X1_mustBeAt (G : Gt) (h : Hp) (t_0 : Option Nat) (r_1 : Option Nat) (K : Hp → Prop) (X : Nat → Nat → Hp → Prop) : Prop :=
gI h t_0 1 3 fun i1 =>
rv h r_1 5 (f_X5_isAt G h r_1 i1 (fun i11 h10 =>
((¬ (i11 = 0) → gI h10 t_0 1 3 fun i13 =>
f_X0_refuse G h10 (0 : Int32) (4 : Int32) i13 (fun h18 =>
K h18) X) ∧
(i11 = 0 → gI h10 t_0 1 3 fun i19 =>
f_X0_refuse G h10 (1 : Int32) (4 : Int32) i19 (fun h24 =>
K h24) X))))
theorem m_X1_mustBeAt {G : Gt} {h : Hp} {a0 : Nat} {r_1 : Option Nat} {K : Hp → Prop} {X : Nat → Nat → Hp → Prop} (hG : Base G) (hf : f_X1_mustBeAt G h (some a0) r_1 K X) : MM G Y_X1_mustBeAt cX1_mustBeAt 2 1 8 [.ref a0, va_rf r_1] h (kV K) X := by
  refine mm_of hG (by decide +kernel) rfl (ac_c rfl (ac_c (rf_cat _) ac_nil)) (Nat.le_of_ble_eq_true rfl) (fun E _ _ => ?_)
  show V G E Y_X1_mustBeAt cX1_mustBeAt 2 (QM G E (kV K) X) h 1 8 0 [(0, .ref a0), (1, va_rf r_1)] []
  unfold f_X1_mustBeAt at hf
  refine v_qload_n (r := r_1) (i := 1) dX1_mustBeAt_0 rfl rfl ?_
  refine v_qload_n (r := (some a0)) (i := 0) dX1_mustBeAt_1 rfl rfl ?_
  replace hf := gI_e hf
  obtain ⟨w2, fs3, i1, hh4, hk5, hf⟩ := hf
  refine v_getf (T := TX1) (ci := 1) 3 dX1_mustBeAt_2 q193 rfl in_X1 (Nat.le_of_ble_eq_true rfl) (Or.inl rfl) hh4 hk5 ?_
  obtain ⟨a6, rfl⟩ := rv_s hf
  replace hf := rv_e hf
  obtain ⟨w7, fs8, hh9, hf⟩ := hf
  refine V.addK0 ?_
  refine V.addN0 ?_
  refine v_callV (mc := 0) (ms := 0) 1 dX1_mustBeAt_5 (m_X5_isAt hG hf) rfl hh9 rfl (lw_V q744 q679 q680 q110 q681) rfl (by decide +kernel) (by decide) rfl (cat_len (Nat.le_of_ble_eq_true rfl)) (kk_I fun i11 h10 hg => ?_) (fun _ _ _ hx => hx.elim)
  replace hf := hg
  clear hg
  refine v_if_ne 15 dX1_mustBeAt_8 (by decide) (fun c12 => ?_) (fun c12 => ?_)
  · replace hf := hf.1 c12
    refine v_iconst (v := 0) dX1_mustBeAt_15 (by decide) ?_
    refine v_iconst (v := 4) dX1_mustBeAt_16 (by decide) ?_
    refine v_qload_n (r := (some a0)) (i := 0) dX1_mustBeAt_17 rfl rfl ?_
    replace hf := gI_e hf
    obtain ⟨w14, fs15, i13, hh16, hk17, hf⟩ := hf
    refine v_getf (T := TX1) (ci := 1) 3 dX1_mustBeAt_18 q193 rfl in_X1 (Nat.le_of_ble_eq_true rfl) (Or.inl rfl) hh16 hk17 ?_
    refine v_callSN (mc := 1) (ms := 8) 3 dX1_mustBeAt_21 (m_X0_refuse hG hf) rfl (lw_meth q514) q88 q512 q513 rfl (by decide +kernel) (by decide) rfl (cat_len (Nat.le_of_ble_eq_true rfl)) (kk_V fun h18 hg => ?_) (fun _ _ _ hx => vx_leave (by decide) hx)
    replace hf := hg
    clear hg
    exact v_vret dX1_mustBeAt_24 rfl ⟨rfl, hf⟩
  · replace hf := hf.2 c12
    refine v_iconst (v := 1) dX1_mustBeAt_11 (by decide) ?_
    refine v_goto 16 dX1_mustBeAt_12 (by decide) ?_
    refine v_iconst (v := 4) dX1_mustBeAt_16 (by decide) ?_
    refine v_qload_n (r := (some a0)) (i := 0) dX1_mustBeAt_17 rfl rfl ?_
    replace hf := gI_e hf
    obtain ⟨w20, fs21, i19, hh22, hk23, hf⟩ := hf
    refine v_getf (T := TX1) (ci := 1) 3 dX1_mustBeAt_18 q193 rfl in_X1 (Nat.le_of_ble_eq_true rfl) (Or.inl rfl) hh22 hk23 ?_
    refine v_callSN (mc := 1) (ms := 8) 3 dX1_mustBeAt_21 (m_X0_refuse hG hf) rfl (lw_meth q514) q88 q512 q513 rfl (by decide +kernel) (by decide) rfl (cat_len (Nat.le_of_ble_eq_true rfl)) (kk_V fun h24 hg => ?_) (fun _ _ _ hx => vx_leave (by decide) hx)
    replace hf := hg
    clear hg
    exact v_vret dX1_mustBeAt_24 rfl ⟨rfl, hf⟩
abbrev Y_X1_lastStep : Yt := (yX1_lastStep, some (.int), 4, 104, [])
def f_X1_lastStep (G : Gt) (h : Hp) (t_0 : Option Nat) (K : Int32 → Hp → Prop) : Prop :=
gI h t_0 1 4 fun i1 =>
gR h t_0 1 0 fun r6 =>
gI h t_0 1 3 fun i11 =>
rv h r6 10 (f_J2_get G h r6 i11 (fun r21 h20 =>
(oc h20 r21 3 ∧ rv h20 r21 3 (f_X3_steps G h20 r21 (fun i27 h26 =>
K (i1 + i27) h26)))))
theorem m_X1_lastStep {G : Gt} {h : Hp} {a0 : Nat} {K : Int32 → Hp → Prop} (hG : Base G) (hf : f_X1_lastStep G h (some a0) K) : MM G Y_X1_lastStep cX1_lastStep 1 0 0 [.ref a0] h (kI K) xN := by
  refine mm_of hG (by decide +kernel) rfl (ac_c rfl ac_nil) (Nat.le_of_ble_eq_true rfl) (fun E _ _ => ?_)
  show V G E Y_X1_lastStep cX1_lastStep 1 (QM G E (kI K) xN) h 0 0 0 [(0, .ref a0)] []
  unfold f_X1_lastStep at hf
  refine v_qload_n (r := (some a0)) (i := 0) dX1_lastStep_0 rfl rfl ?_
  replace hf := gI_e hf
  obtain ⟨w2, fs3, i1, hh4, hk5, hf⟩ := hf
  refine v_getf (T := TX1) (ci := 1) 4 dX1_lastStep_1 q195 rfl in_X1 (Nat.le_of_ble_eq_true rfl) (Or.inl rfl) hh4 hk5 ?_
  refine v_qload_n (r := (some a0)) (i := 0) dX1_lastStep_4 rfl rfl ?_
  replace hf := gR_e hf
  obtain ⟨w7, fs8, r6, hh9, hk10, hf⟩ := hf
  refine v_getf (T := TX1) (ci := 1) 0 dX1_lastStep_5 q188 rfl in_X1 (Nat.le_of_ble_eq_true rfl) (Or.inl rfl) hh9 hk10 ?_
  refine v_qload_n (r := (some a0)) (i := 0) dX1_lastStep_8 rfl rfl ?_
  replace hf := gI_e hf
  obtain ⟨w12, fs13, i11, hh14, hk15, hf⟩ := hf
  refine v_getf (T := TX1) (ci := 1) 3 dX1_lastStep_9 q193 rfl in_X1 (Nat.le_of_ble_eq_true rfl) (Or.inl rfl) hh14 hk15 ?_
  obtain ⟨a16, rfl⟩ := rv_s hf
  replace hf := rv_e hf
  obtain ⟨w17, fs18, hh19, hf⟩ := hf
  refine V.addK0 ?_
  refine V.addN0 ?_
  refine v_callV (mc := 0) (ms := 0) 1 dX1_lastStep_12 (m_J2_get hG hf) rfl hh19 rfl (lw_V q660 q661 q662 q92 q663) rfl (by decide +kernel) (by decide) rfl (cat_len (Nat.le_of_ble_eq_true rfl)) (kk_R fun r21 h20 hg => ?_) (fun _ _ _ hx => hx.elim)
  replace hf := hg
  clear hg
  obtain ⟨hoc, hf⟩ := hf
  refine v_castQS (r := r21) dX1_lastStep_15 q402 hoc rfl ?_
  obtain ⟨a22, rfl⟩ := rv_s hf
  replace hf := rv_e hf
  obtain ⟨w23, fs24, hh25, hf⟩ := hf
  refine V.addK0 ?_
  refine V.addN0 ?_
  refine v_callV (mc := 0) (ms := 0) 0 dX1_lastStep_18 (m_X3_steps hG hf) rfl hh25 rfl (lw_V q1575 q1576 q1577 q100 q1578) rfl (by decide +kernel) (by decide) rfl (cat_len (Nat.le_of_ble_eq_true rfl)) (kk_I fun i27 h26 hg => ?_) (fun _ _ _ hx => hx.elim)
  replace hf := hg
  clear hg
  refine v_iadd dX1_lastStep_21 ?_
  exact v_iret dX1_lastStep_22 rfl ⟨_, rfl, hf⟩
abbrev Y_X1_burns : Yt := (yX1_burns, some (.int), 3, 82, [])
def g_X1_burns_0 (G : Gt) (E : Ev) (h : Hp) (k n : Nat) (a0 : Nat) (i_1 : Int32) (K : Int32 → Hp → Prop) : Prop :=
gR h (some a0) 1 0 fun r1 =>
rv h r1 10 (f_J2_iterator G h r1 (fun r11 h10 =>
V G E Y_X1_burns cX1_burns 5 (QM G E (kI K) xN) h10 k n 10 [(0, .ref a0), (1, .int i_1), (2, .int (0 : Int32)), (3, va_rf r11)] []))
theorem s_X1_burns_0 {G : Gt} {E : Ev} {h : Hp} {k0 n0 : Nat} {a0 : Nat} {i_1 : Int32} {K : Int32 → Hp → Prop} (hG : Base G) (hA : 1 ≤ k0) (hB : 4 ≤ n0) (hf : g_X1_burns_0 G E h (k0 - 1) (n0 - 4) a0 i_1 K) : V G E Y_X1_burns cX1_burns 5 (QM G E (kI K) xN) h k0 n0 0 [(0, .ref a0), (1, .int i_1)] [] := by
  obtain ⟨k, hk9⟩ : ∃ z, z = k0 - 1 := ⟨_, rfl⟩
  obtain ⟨n, hn9⟩ : ∃ z, z = n0 - 4 := ⟨_, rfl⟩
  rw [← hk9, ← hn9] at hf
  refine V.weak (k' := k + 1) (n' := n + 4) ?_ (by omega) (by omega)
  unfold g_X1_burns_0 at hf
  refine v_iconst (v := 0) dX1_burns_0 (by decide) ?_
  refine v_istore_n (i := 2) (lv' := [(0, .ref a0), (1, .int i_1), (2, .int (0 : Int32))]) dX1_burns_1 rfl (Nat.le_of_ble_eq_true rfl) rfl rfl ?_
  refine v_aload_n (i := 0) dX1_burns_2 rfl rfl ?_
  replace hf := gR_e hf
  obtain ⟨w2, fs3, r1, hh4, hk5, hf⟩ := hf
  refine v_getf (T := TX1) (ci := 1) 0 dX1_burns_3 q188 rfl in_X1 (Nat.le_of_ble_eq_true rfl) (Or.inl rfl) hh4 hk5 ?_
  obtain ⟨a6, rfl⟩ := rv_s hf
  replace hf := rv_e hf
  obtain ⟨w7, fs8, hh9, hf⟩ := hf
  refine v_callV (mc := 1) (ms := 4) 0 dX1_burns_6 (m_J2_iterator hG hf) rfl hh9 rfl (lw_V q315 q316 q317 q92 q318) rfl (by decide +kernel) (by decide) rfl (cat_len (Nat.le_of_ble_eq_true rfl)) (kk_R fun r11 h10 hg => ?_) (fun _ _ _ hx => hx.elim)
  replace hf := hg
  clear hg
  refine v_qstore_n (i := 3) (r := r11) (lv' := [(0, .ref a0), (1, .int i_1), (2, .int (0 : Int32)), (3, va_rf r11)]) dX1_burns_9 rfl (Nat.le_of_ble_eq_true rfl) rfl rfl ?_
  exact V.weak hf (by omega) (by omega)
def g_X1_burns_10 (G : Gt) (E : Ev) (h : Hp) (k n : Nat) (a0 : Nat) (i_1 : Int32) (i_2 : Int32) (r_3 : Option Nat) (K : Int32 → Hp → Prop) : Prop :=
rv h r_3 11 (f_J8_hasNext G h r_3 (fun i6 h5 =>
((i6 = 0 → gI h5 (some a0) 1 4 fun i8 =>
pF h5 (some a0) 1 4 (.int (i8 + i_1)) fun h15 =>
K i_2 h15) ∧
(¬ (i6 = 0) → rv h5 r_3 11 (f_J8_next G h5 r_3 (fun r20 h19 =>
(oc h19 r20 3 ∧ rv h19 r20 3 (f_X3_isLit G h19 r20 (fun i26 h25 =>
((i26 = 0 → gI h25 r20 3 1 fun i28 =>
f_J10_max G h25 (0 : Int32) (i28 - i_1) (fun i34 h33 =>
pF h33 r20 3 1 (.int i34) fun h37 =>
V G E Y_X1_burns cX1_burns 5 (QM G E (kI K) xN) h37 k n 10 [(0, .ref a0), (1, .int i_1), (2, .int (i_2 + (0 : Int32))), (3, va_rf r_3)] [])) ∧
(¬ (i26 = 0) → gI h25 r20 3 1 fun i38 =>
((i_1 < i38 → gI h25 r20 3 1 fun i44 =>
f_J10_max G h25 (0 : Int32) (i44 - i_1) (fun i50 h49 =>
pF h49 r20 3 1 (.int i50) fun h53 =>
V G E Y_X1_burns cX1_burns 5 (QM G E (kI K) xN) h53 k n 10 [(0, .ref a0), (1, .int i_1), (2, .int (i_2 + (0 : Int32))), (3, va_rf r_3)] [])) ∧
(¬ (i_1 < i38) → gI h25 r20 3 1 fun i54 =>
f_J10_max G h25 (0 : Int32) (i54 - i_1) (fun i60 h59 =>
pF h59 r20 3 1 (.int i60) fun h63 =>
V G E Y_X1_burns cX1_burns 5 (QM G E (kI K) xN) h63 k n 10 [(0, .ref a0), (1, .int i_1), (2, .int (i_2 + (1 : Int32))), (3, va_rf r_3)] []))))))))))))))
theorem s_X1_burns_10 {G : Gt} {E : Ev} {h : Hp} {k0 n0 : Nat} {a0 : Nat} {i_1 : Int32} {i_2 : Int32} {r_3 : Option Nat} {K : Int32 → Hp → Prop} (hG : Base G) (hA : 0 ≤ k0) (hB : 0 ≤ n0) (hf : g_X1_burns_10 G E h (k0 - 0) (n0 - 0) a0 i_1 i_2 r_3 K) : V G E Y_X1_burns cX1_burns 5 (QM G E (kI K) xN) h k0 n0 10 [(0, .ref a0), (1, .int i_1), (2, .int i_2), (3, va_rf r_3)] [] := by
  obtain ⟨k, hk9⟩ : ∃ z, z = k0 - 0 := ⟨_, rfl⟩
  obtain ⟨n, hn9⟩ : ∃ z, z = n0 - 0 := ⟨_, rfl⟩
  rw [← hk9, ← hn9] at hf
  refine V.weak (k' := k + 0) (n' := n + 0) ?_ (by omega) (by omega)
  unfold g_X1_burns_10 at hf
  refine v_qload_n (r := r_3) (i := 3) dX1_burns_10 rfl rfl ?_
  obtain ⟨a1, rfl⟩ := rv_s hf
  replace hf := rv_e hf
  obtain ⟨w2, fs3, hh4, hf⟩ := hf
  refine V.addK0 ?_
  refine V.addN0 ?_
  refine v_callF (mc := 0) (ms := 0) 0 dX1_burns_11 (m_J8_hasNext hG hf) rfl hh4 rfl (lw_F q339 q343 q345 q99 q347) (fun C9 => v_Fw C9 (by decide) q341 q340 q346 q344 q342) rfl (by decide +kernel) (by decide) rfl (cat_len (Nat.le_of_ble_eq_true rfl)) (kk_I fun i6 h5 hg => ?_) (fun _ _ _ hx => hx.elim)
  replace hf := hg
  clear hg
  refine v_if_eq 74 dX1_burns_16 (by decide) (fun c7 => ?_) (fun c7 => ?_)
  · replace hf := hf.1 c7
    refine v_aload_n (i := 0) dX1_burns_74 rfl rfl ?_
    refine v_dup dX1_burns_75 rfl ?_
    replace hf := gI_e hf
    obtain ⟨w9, fs10, i8, hh11, hk12, hf⟩ := hf
    refine v_getf (T := TX1) (ci := 1) 4 dX1_burns_76 q195 rfl in_X1 (Nat.le_of_ble_eq_true rfl) (Or.inl rfl) hh11 hk12 ?_
    refine v_iload_n (i := 1) dX1_burns_79 rfl rfl ?_
    refine v_iadd dX1_burns_80 ?_
    replace hf := pF_e hf
    obtain ⟨fs13, hh14, hf⟩ := hf
    refine v_putf (v := .int (i8 + i_1)) (T := TX1) (ci := 1) (ty := .int) 4 dX1_burns_81 q195 rfl in_X1 tyX1 tyX1_ok nmX1 (Nat.le_of_ble_eq_true rfl) (Or.inl rfl) rfl (by decide +kernel) rfl rfl hh14 ?_
    obtain ⟨h15, eh15⟩ : ∃ z, z = hs h5 a0 (true, .inr (1, fs13.set 4 (.int (i8 + i_1)))) := ⟨_, rfl⟩
    try rw [← eh15] at hf
    rw [← eh15]
    refine v_iload_n (i := 2) dX1_burns_84 rfl rfl ?_
    exact v_iret dX1_burns_85 rfl ⟨_, rfl, hf⟩
  · replace hf := hf.2 c7
    refine v_qload_n (r := (some a1)) (i := 3) dX1_burns_19 rfl rfl ?_
    replace hf := rv_e hf
    obtain ⟨w16, fs17, hh18, hf⟩ := hf
    refine V.addK0 ?_
    refine V.addN0 ?_
    refine v_callF (mc := 0) (ms := 0) 0 dX1_burns_20 (m_J8_next hG hf) rfl hh18 rfl (lw_F q361 q364 q366 q99 q368) (fun C9 => v_Fw C9 (by decide) q363 q362 q367 q365 q342) rfl (by decide +kernel) (by decide) rfl (cat_len (Nat.le_of_ble_eq_true rfl)) (kk_R fun r20 h19 hg => ?_) (fun _ _ _ hx => hx.elim)
    replace hf := hg
    clear hg
    obtain ⟨hoc, hf⟩ := hf
    refine v_castQS (r := r20) dX1_burns_25 q402 hoc rfl ?_
    refine v_qstore (i := 4) (r := r20) (lv' := [(0, .ref a0), (1, .int i_1), (2, .int i_2), (3, va_rf (some a1)), (4, va_rf r20)]) dX1_burns_28 (Nat.le_of_ble_eq_true rfl) rfl rfl ?_
    refine v_iload_n (i := 2) dX1_burns_30 rfl rfl ?_
    refine v_qload (r := r20) (i := 4) dX1_burns_31 rfl ?_
    obtain ⟨a21, rfl⟩ := rv_s hf
    replace hf := rv_e hf
    obtain ⟨w22, fs23, hh24, hf⟩ := hf
    refine V.addK0 ?_
    refine V.addN0 ?_
    refine v_callV (mc := 0) (ms := 0) 0 dX1_burns_33 (m_X3_isLit hG hf) rfl hh24 rfl (lw_V q1647 q1580 q1581 q100 q1582) rfl (by decide +kernel) (by decide) rfl (cat_len (Nat.le_of_ble_eq_true rfl)) (kk_I fun i26 h25 hg => ?_) (fun _ _ _ hx => hx.elim)
    replace hf := hg
    clear hg
    refine v_if_eq 52 dX1_burns_36 (by decide) (fun c27 => ?_) (fun c27 => ?_)
    · replace hf := hf.1 c27
      refine v_iconst (v := 0) dX1_burns_52 (by decide) ?_
      refine v_iadd dX1_burns_53 ?_
      refine v_istore_n (i := 2) (lv' := [(0, .ref a0), (1, .int i_1), (2, .int (i_2 + (0 : Int32))), (3, va_rf (some a1)), (4, va_rf (some a21))]) dX1_burns_54 rfl (Nat.le_of_ble_eq_true rfl) rfl rfl ?_
      refine v_qload (r := (some a21)) (i := 4) dX1_burns_55 rfl ?_
      refine v_iconst (v := 0) dX1_burns_57 (by decide) ?_
      refine v_qload (r := (some a21)) (i := 4) dX1_burns_58 rfl ?_
      replace hf := gI_e hf
      obtain ⟨w29, fs30, i28, hh31, hk32, hf⟩ := hf
      refine v_getfN (T := TX3) (ci := 3) 1 dX1_burns_60 q416 rfl in_X3 (Nat.le_of_ble_eq_true rfl) (Or.inl rfl) hh31 hk32 ?_
      refine v_iload_n (i := 1) dX1_burns_63 rfl rfl ?_
      refine v_isub dX1_burns_64 ?_
      refine V.addK0 ?_
      refine V.addN0 ?_
      refine v_callS (mc := 0) (ms := 0) 2 dX1_burns_65 (m_J10_max hG hf) rfl (lw_S q1696 q444 q102 q445) rfl (by decide +kernel) (by decide) rfl (cat_len (Nat.le_of_ble_eq_true rfl)) (kk_I fun i34 h33 hg => ?_) (fun _ _ _ hx => hx.elim)
      replace hf := hg
      clear hg
      replace hf := pF_e hf
      obtain ⟨fs35, hh36, hf⟩ := hf
      refine v_putfN (v := .int i34) (T := TX3) (ci := 3) (ty := .int) 1 dX1_burns_68 q416 rfl in_X3 tyX3 tyX3_ok nmX3 (Nat.le_of_ble_eq_true rfl) (Or.inl rfl) rfl (by decide +kernel) rfl rfl hh36 ?_
      obtain ⟨h37, eh37⟩ : ∃ z, z = hs h33 a21 (true, .inr (3, fs35.set 1 (.int i34))) := ⟨_, rfl⟩
      try rw [← eh37] at hf
      rw [← eh37]
      refine v_goto 10 dX1_burns_71 (by decide) ?_
      refine V.lp (lv' := [(0, .ref a0), (1, .int i_1), (2, .int (i_2 + (0 : Int32))), (3, va_rf (some a1))]) [0, 1, 2, 3] rfl ?_
      exact V.weak hf (by omega) (by omega)
    · replace hf := hf.2 c27
      refine v_qload (r := (some a21)) (i := 4) dX1_burns_39 rfl ?_
      replace hf := gI_e hf
      obtain ⟨w39, fs40, i38, hh41, hk42, hf⟩ := hf
      refine v_getfN (T := TX3) (ci := 3) 1 dX1_burns_41 q416 rfl in_X3 (Nat.le_of_ble_eq_true rfl) (Or.inl rfl) hh41 hk42 ?_
      refine v_iload_n (i := 1) dX1_burns_44 rfl rfl ?_
      refine v_icmp_gt 52 dX1_burns_45 (by decide) (fun c43 => ?_) (fun c43 => ?_)
      · replace hf := hf.1 c43
        refine v_iconst (v := 0) dX1_burns_52 (by decide) ?_
        refine v_iadd dX1_burns_53 ?_
        refine v_istore_n (i := 2) (lv' := [(0, .ref a0), (1, .int i_1), (2, .int (i_2 + (0 : Int32))), (3, va_rf (some a1)), (4, va_rf (some a21))]) dX1_burns_54 rfl (Nat.le_of_ble_eq_true rfl) rfl rfl ?_
        refine v_qload (r := (some a21)) (i := 4) dX1_burns_55 rfl ?_
        refine v_iconst (v := 0) dX1_burns_57 (by decide) ?_
        refine v_qload (r := (some a21)) (i := 4) dX1_burns_58 rfl ?_
        replace hf := gI_e hf
        obtain ⟨w45, fs46, i44, hh47, hk48, hf⟩ := hf
        refine v_getfN (T := TX3) (ci := 3) 1 dX1_burns_60 q416 rfl in_X3 (Nat.le_of_ble_eq_true rfl) (Or.inl rfl) hh47 hk48 ?_
        refine v_iload_n (i := 1) dX1_burns_63 rfl rfl ?_
        refine v_isub dX1_burns_64 ?_
        refine V.addK0 ?_
        refine V.addN0 ?_
        refine v_callS (mc := 0) (ms := 0) 2 dX1_burns_65 (m_J10_max hG hf) rfl (lw_S q1696 q444 q102 q445) rfl (by decide +kernel) (by decide) rfl (cat_len (Nat.le_of_ble_eq_true rfl)) (kk_I fun i50 h49 hg => ?_) (fun _ _ _ hx => hx.elim)
        replace hf := hg
        clear hg
        replace hf := pF_e hf
        obtain ⟨fs51, hh52, hf⟩ := hf
        refine v_putfN (v := .int i50) (T := TX3) (ci := 3) (ty := .int) 1 dX1_burns_68 q416 rfl in_X3 tyX3 tyX3_ok nmX3 (Nat.le_of_ble_eq_true rfl) (Or.inl rfl) rfl (by decide +kernel) rfl rfl hh52 ?_
        obtain ⟨h53, eh53⟩ : ∃ z, z = hs h49 a21 (true, .inr (3, fs51.set 1 (.int i50))) := ⟨_, rfl⟩
        try rw [← eh53] at hf
        rw [← eh53]
        refine v_goto 10 dX1_burns_71 (by decide) ?_
        refine V.lp (lv' := [(0, .ref a0), (1, .int i_1), (2, .int (i_2 + (0 : Int32))), (3, va_rf (some a1))]) [0, 1, 2, 3] rfl ?_
        exact V.weak hf (by omega) (by omega)
      · replace hf := hf.2 c43
        refine v_iconst (v := 1) dX1_burns_48 (by decide) ?_
        refine v_goto 53 dX1_burns_49 (by decide) ?_
        refine v_iadd dX1_burns_53 ?_
        refine v_istore_n (i := 2) (lv' := [(0, .ref a0), (1, .int i_1), (2, .int (i_2 + (1 : Int32))), (3, va_rf (some a1)), (4, va_rf (some a21))]) dX1_burns_54 rfl (Nat.le_of_ble_eq_true rfl) rfl rfl ?_
        refine v_qload (r := (some a21)) (i := 4) dX1_burns_55 rfl ?_
        refine v_iconst (v := 0) dX1_burns_57 (by decide) ?_
        refine v_qload (r := (some a21)) (i := 4) dX1_burns_58 rfl ?_
        replace hf := gI_e hf
        obtain ⟨w55, fs56, i54, hh57, hk58, hf⟩ := hf
        refine v_getfN (T := TX3) (ci := 3) 1 dX1_burns_60 q416 rfl in_X3 (Nat.le_of_ble_eq_true rfl) (Or.inl rfl) hh57 hk58 ?_
        refine v_iload_n (i := 1) dX1_burns_63 rfl rfl ?_
        refine v_isub dX1_burns_64 ?_
        refine V.addK0 ?_
        refine V.addN0 ?_
        refine v_callS (mc := 0) (ms := 0) 2 dX1_burns_65 (m_J10_max hG hf) rfl (lw_S q1696 q444 q102 q445) rfl (by decide +kernel) (by decide) rfl (cat_len (Nat.le_of_ble_eq_true rfl)) (kk_I fun i60 h59 hg => ?_) (fun _ _ _ hx => hx.elim)
        replace hf := hg
        clear hg
        replace hf := pF_e hf
        obtain ⟨fs61, hh62, hf⟩ := hf
        refine v_putfN (v := .int i60) (T := TX3) (ci := 3) (ty := .int) 1 dX1_burns_68 q416 rfl in_X3 tyX3 tyX3_ok nmX3 (Nat.le_of_ble_eq_true rfl) (Or.inl rfl) rfl (by decide +kernel) rfl rfl hh62 ?_
        obtain ⟨h63, eh63⟩ : ∃ z, z = hs h59 a21 (true, .inr (3, fs61.set 1 (.int i60))) := ⟨_, rfl⟩
        try rw [← eh63] at hf
        rw [← eh63]
        refine v_goto 10 dX1_burns_71 (by decide) ?_
        refine V.lp (lv' := [(0, .ref a0), (1, .int i_1), (2, .int (i_2 + (1 : Int32))), (3, va_rf (some a1))]) [0, 1, 2, 3] rfl ?_
        exact V.weak hf (by omega) (by omega)
theorem b_X1_burns {G : Gt} {h : Hp} {mc ms : Nat} {a0 : Nat} {i_1 : Int32} {K : Int32 → Hp → Prop} (hG : Base G) (hf : ∀ E : Ev, V G E Y_X1_burns cX1_burns 5 (QM G E (kI K) xN) h mc ms 0 [(0, .ref a0), (1, .int i_1)] []) : MM G Y_X1_burns cX1_burns 5 mc ms [.ref a0, .int i_1] h (kI K) xN := mm_of hG (by decide +kernel) rfl (ac_c rfl (ac_c rfl ac_nil)) (Nat.le_of_ble_eq_true rfl) (fun E _ _ => hf E)
abbrev Y_J2_isEmpty : Yt := (yJ2_isEmpty, some (.boolean), 1, 40, [])
def f_J2_isEmpty (G : Gt) (h : Hp) (t_0 : Option Nat) (K : Int32 → Hp → Prop) : Prop :=
gI h t_0 10 2 fun i1 =>
((¬ (i1 = 0) → K (0 : Int32) h) ∧
(i1 = 0 → K (1 : Int32) h))
theorem m_J2_isEmpty {G : Gt} {h : Hp} {a0 : Nat} {K : Int32 → Hp → Prop} (hG : Base G) (hf : f_J2_isEmpty G h (some a0) K) : MM G Y_J2_isEmpty cJ2_isEmpty 1 0 0 [.ref a0] h (kI K) xN := by
  refine mm_of hG (by decide +kernel) rfl (ac_c rfl ac_nil) (Nat.le_of_ble_eq_true rfl) (fun E _ _ => ?_)
  show V G E Y_J2_isEmpty cJ2_isEmpty 1 (QM G E (kI K) xN) h 0 0 0 [(0, .ref a0)] []
  unfold f_J2_isEmpty at hf
  refine v_qload_n (r := (some a0)) (i := 0) dJ2_isEmpty_0 rfl rfl ?_
  replace hf := gI_e hf
  obtain ⟨w2, fs3, i1, hh4, hk5, hf⟩ := hf
  refine v_getf (T := TJ2) (ci := 10) 2 dJ2_isEmpty_1 q174 rfl in_J2 (Nat.le_of_ble_eq_true rfl) (Or.inl rfl) hh4 hk5 ?_
  refine v_if_ne 11 dJ2_isEmpty_4 (by decide) (fun c6 => ?_) (fun c6 => ?_)
  · replace hf := hf.1 c6
    refine v_iconst (v := 0) dJ2_isEmpty_11 (by decide) ?_
    exact v_zret dJ2_isEmpty_12 rfl (by decide) ⟨_, rfl, hf⟩
  · replace hf := hf.2 c6
    refine v_iconst (v := 1) dJ2_isEmpty_7 (by decide) ?_
    refine v_goto 12 dJ2_isEmpty_8 (by decide) ?_
    exact v_zret dJ2_isEmpty_12 rfl (by decide) ⟨_, rfl, hf⟩
abbrev Y_X1_mustHaveRooms : Yt := (yX1_mustHaveRooms, none, 5, 132, [])
def f_X1_mustHaveRooms (G : Gt) (h : Hp) (t_0 : Option Nat) (K : Hp → Prop) (X : Nat → Nat → Hp → Prop) : Prop :=
gR h t_0 1 0 fun r1 =>
rv h r1 10 (f_J2_isEmpty G h r1 (fun i11 h10 =>
f_X0_refuse G h10 i11 (11 : Int32) (0 : Int32) (fun h12 =>
K h12) X))
theorem m_X1_mustHaveRooms {G : Gt} {h : Hp} {a0 : Nat} {K : Hp → Prop} {X : Nat → Nat → Hp → Prop} (hG : Base G) (hf : f_X1_mustHaveRooms G h (some a0) K X) : MM G Y_X1_mustHaveRooms cX1_mustHaveRooms 1 1 8 [.ref a0] h (kV K) X := by
  refine mm_of hG (by decide +kernel) rfl (ac_c rfl ac_nil) (Nat.le_of_ble_eq_true rfl) (fun E _ _ => ?_)
  show V G E Y_X1_mustHaveRooms cX1_mustHaveRooms 1 (QM G E (kV K) X) h 1 8 0 [(0, .ref a0)] []
  unfold f_X1_mustHaveRooms at hf
  refine v_qload_n (r := (some a0)) (i := 0) dX1_mustHaveRooms_0 rfl rfl ?_
  replace hf := gR_e hf
  obtain ⟨w2, fs3, r1, hh4, hk5, hf⟩ := hf
  refine v_getf (T := TX1) (ci := 1) 0 dX1_mustHaveRooms_1 q188 rfl in_X1 (Nat.le_of_ble_eq_true rfl) (Or.inl rfl) hh4 hk5 ?_
  obtain ⟨a6, rfl⟩ := rv_s hf
  replace hf := rv_e hf
  obtain ⟨w7, fs8, hh9, hf⟩ := hf
  refine V.addK0 ?_
  refine V.addN0 ?_
  refine v_callV (mc := 0) (ms := 0) 0 dX1_mustHaveRooms_4 (m_J2_isEmpty hG hf) rfl hh9 rfl (lw_V q773 q774 q775 q92 q776) rfl (by decide +kernel) (by decide) rfl (cat_len (Nat.le_of_ble_eq_true rfl)) (kk_I fun i11 h10 hg => ?_) (fun _ _ _ hx => hx.elim)
  replace hf := hg
  clear hg
  refine v_bipush (v := 11) dX1_mustHaveRooms_7 (by decide) ?_
  refine v_iconst (v := 0) dX1_mustHaveRooms_9 (by decide) ?_
  refine v_callSN (mc := 1) (ms := 8) 3 dX1_mustHaveRooms_10 (m_X0_refuse hG hf) rfl (lw_meth q514) q88 q512 q513 rfl (by decide +kernel) (by decide) rfl (cat_len (Nat.le_of_ble_eq_true rfl)) (kk_V fun h12 hg => ?_) (fun _ _ _ hx => vx_leave (by decide) hx)
  replace hf := hg
  clear hg
  exact v_vret dX1_mustHaveRooms_13 rfl ⟨rfl, hf⟩
abbrev Y_X1_rests : Yt := (yX1_rests, some (.int), 6, 152, [])
def f_X1_rests (G : Gt) (h : Hp) (k n : Nat) (t_0 : Option Nat) (i_1 : Int32) (K : Int32 → Hp → Prop) (X : Nat → Nat → Hp → Prop) : Prop :=
rv h t_0 1 (f_X1_mustHaveRooms G h t_0 (fun h4 =>
rv h4 t_0 1 (dI G Y_X1_burns cX1_burns 5 [va_rf t_0, .int i_1] h4 k n (fun i9 h8 k12 n13 =>
K i9 h8) xN)) X)
theorem m_X1_rests {G : Gt} {h : Hp} {mc ms : Nat} {a0 : Nat} {i_1 : Int32} {K : Int32 → Hp → Prop} {X : Nat → Nat → Hp → Prop} (hG : Base G) (hA : 1 ≤ mc) (hB : 8 ≤ ms) (hf : f_X1_rests G h (mc - 1) (ms - 8) (some a0) i_1 K X) : MM G Y_X1_rests cX1_rests 2 mc ms [.ref a0, .int i_1] h (kI K) X := by
  refine mm_of hG (by decide +kernel) rfl (ac_c rfl (ac_c rfl ac_nil)) (Nat.le_of_ble_eq_true rfl) (fun E _ _ => ?_)
  obtain ⟨k, hk9⟩ : ∃ z, z = mc - 1 := ⟨_, rfl⟩
  obtain ⟨n, hn9⟩ : ∃ z, z = ms - 8 := ⟨_, rfl⟩
  rw [← hk9, ← hn9] at hf
  refine V.weak (k' := k + 1) (n' := n + 8) ?_ (by omega) (by omega)
  show V G E Y_X1_rests cX1_rests 2 (QM G E (kI K) X) h (k + 1) (n + 8) 0 [(0, .ref a0), (1, .int i_1)] []
  unfold f_X1_rests at hf
  refine v_qload_n (r := (some a0)) (i := 0) dX1_rests_0 rfl rfl ?_
  replace hf := rv_e hf
  obtain ⟨w1, fs2, hh3, hf⟩ := hf
  refine v_callV (mc := 1) (ms := 8) 0 dX1_rests_1 (m_X1_mustHaveRooms hG hf) rfl hh3 rfl (lw_V q1715 q1717 qs23 q89 q1718) rfl (by decide +kernel) (by decide) rfl (cat_len (Nat.le_of_ble_eq_true rfl)) (kk_V fun h4 hg => ?_) (fun _ _ _ hx => vx_leave (by decide) hx)
  replace hf := hg
  clear hg
  refine v_qload_n (r := (some a0)) (i := 0) dX1_rests_4 rfl rfl ?_
  refine v_iload_n (i := 1) dX1_rests_5 rfl rfl ?_
  replace hf := rv_e hf
  obtain ⟨w5, fs6, hh7, hf⟩ := hf
  obtain ⟨mc10, ms11, hkmc10, hnms11, hM⟩ := hf
  refine V.weak (k' := ((k - mc10) + 0) + mc10) (n' := ((n - ms11) + 0) + ms11) ?_ (by omega) (by omega)
  refine v_callV 1 dX1_rests_6 hM rfl hh7 rfl (lw_V q1692 q1694 qs22 q89 q1695) rfl (by decide +kernel) (by decide) rfl (cat_len (Nat.le_of_ble_eq_true rfl)) (kk_I fun i9 h8 hg => ?_) (fun _ _ _ hx => hx.elim)
  have hf := hg
  clear hg
  exact v_iret dX1_rests_9 rfl ⟨_, rfl, hf⟩
abbrev Y_X1_canGo : Yt := (yX1_canGo, some (.boolean), 5, 124, [])
def f_X1_canGo (G : Gt) (h : Hp) (t_0 : Option Nat) (r_1 : Option Nat) (K : Int32 → Hp → Prop) : Prop :=
gI h t_0 1 3 fun i1 =>
rv h r_1 5 (f_X5_isAt G h r_1 i1 (fun i11 h10 =>
((i11 = 0 → K (0 : Int32) h10) ∧
(¬ (i11 = 0) → gI h10 r_1 5 4 fun i13 =>
((¬ (i13 = 0) → K (0 : Int32) h10) ∧
(i13 = 0 → rv h10 t_0 1 (f_X1_lastStep G h10 t_0 (fun i23 h22 =>
rv h22 r_1 5 (f_X5_isFor G h22 r_1 i23 (fun i28 h27 =>
((i28 = 0 → K (0 : Int32) h27) ∧
(¬ (i28 = 0) → K (1 : Int32) h27))))))))))))
theorem m_X1_canGo {G : Gt} {h : Hp} {a0 : Nat} {r_1 : Option Nat} {K : Int32 → Hp → Prop} (hG : Base G) (hf : f_X1_canGo G h (some a0) r_1 K) : MM G Y_X1_canGo cX1_canGo 2 0 0 [.ref a0, va_rf r_1] h (kI K) xN := by
  refine mm_of hG (by decide +kernel) rfl (ac_c rfl (ac_c (rf_cat _) ac_nil)) (Nat.le_of_ble_eq_true rfl) (fun E _ _ => ?_)
  show V G E Y_X1_canGo cX1_canGo 2 (QM G E (kI K) xN) h 0 0 0 [(0, .ref a0), (1, va_rf r_1)] []
  unfold f_X1_canGo at hf
  refine v_qload_n (r := r_1) (i := 1) dX1_canGo_0 rfl rfl ?_
  refine v_qload_n (r := (some a0)) (i := 0) dX1_canGo_1 rfl rfl ?_
  replace hf := gI_e hf
  obtain ⟨w2, fs3, i1, hh4, hk5, hf⟩ := hf
  refine v_getf (T := TX1) (ci := 1) 3 dX1_canGo_2 q193 rfl in_X1 (Nat.le_of_ble_eq_true rfl) (Or.inl rfl) hh4 hk5 ?_
  obtain ⟨a6, rfl⟩ := rv_s hf
  replace hf := rv_e hf
  obtain ⟨w7, fs8, hh9, hf⟩ := hf
  refine V.addK0 ?_
  refine V.addN0 ?_
  refine v_callV (mc := 0) (ms := 0) 1 dX1_canGo_5 (m_X5_isAt hG hf) rfl hh9 rfl (lw_V q744 q679 q680 q110 q681) rfl (by decide +kernel) (by decide) rfl (cat_len (Nat.le_of_ble_eq_true rfl)) (kk_I fun i11 h10 hg => ?_) (fun _ _ _ hx => hx.elim)
  replace hf := hg
  clear hg
  refine v_if_eq 33 dX1_canGo_8 (by decide) (fun c12 => ?_) (fun c12 => ?_)
  · replace hf := hf.1 c12
    refine v_iconst (v := 0) dX1_canGo_33 (by decide) ?_
    exact v_zret dX1_canGo_34 rfl (by decide) ⟨_, rfl, hf⟩
  · replace hf := hf.2 c12
    refine v_qload_n (r := (some a6)) (i := 1) dX1_canGo_11 rfl rfl ?_
    replace hf := gI_e hf
    obtain ⟨w14, fs15, i13, hh16, hk17, hf⟩ := hf
    refine v_getfN (T := TX5) (ci := 5) 4 dX1_canGo_12 q700 rfl in_X5 (Nat.le_of_ble_eq_true rfl) (Or.inl rfl) hh16 hk17 ?_
    refine v_if_ne 33 dX1_canGo_15 (by decide) (fun c18 => ?_) (fun c18 => ?_)
    · replace hf := hf.1 c18
      refine v_iconst (v := 0) dX1_canGo_33 (by decide) ?_
      exact v_zret dX1_canGo_34 rfl (by decide) ⟨_, rfl, hf⟩
    · replace hf := hf.2 c18
      refine v_qload_n (r := (some a6)) (i := 1) dX1_canGo_18 rfl rfl ?_
      refine v_qload_n (r := (some a0)) (i := 0) dX1_canGo_19 rfl rfl ?_
      replace hf := rv_e hf
      obtain ⟨w19, fs20, hh21, hf⟩ := hf
      refine V.addK0 ?_
      refine V.addN0 ?_
      refine v_callV (mc := 0) (ms := 0) 0 dX1_canGo_20 (m_X1_lastStep hG hf) rfl hh21 rfl (lw_V q1688 q1690 qs21 q89 q1691) rfl (by decide +kernel) (by decide) rfl (cat_len (Nat.le_of_ble_eq_true rfl)) (kk_I fun i23 h22 hg => ?_) (fun _ _ _ hx => hx.elim)
      replace hf := hg
      clear hg
      replace hf := rv_e hf
      obtain ⟨w24, fs25, hh26, hf⟩ := hf
      refine V.addK0 ?_
      refine V.addN0 ?_
      refine v_callV (mc := 0) (ms := 0) 1 dX1_canGo_23 (m_X5_isFor hG hf) rfl hh26 rfl (lw_V q1583 q1584 q1585 q110 q1586) rfl (by decide +kernel) (by decide) rfl (cat_len (Nat.le_of_ble_eq_true rfl)) (kk_I fun i28 h27 hg => ?_) (fun _ _ _ hx => hx.elim)
      replace hf := hg
      clear hg
      refine v_if_eq 33 dX1_canGo_26 (by decide) (fun c29 => ?_) (fun c29 => ?_)
      · replace hf := hf.1 c29
        refine v_iconst (v := 0) dX1_canGo_33 (by decide) ?_
        exact v_zret dX1_canGo_34 rfl (by decide) ⟨_, rfl, hf⟩
      · replace hf := hf.2 c29
        refine v_iconst (v := 1) dX1_canGo_29 (by decide) ?_
        refine v_goto 34 dX1_canGo_30 (by decide) ?_
        exact v_zret dX1_canGo_34 rfl (by decide) ⟨_, rfl, hf⟩
abbrev Y_X1_doorsHere : Yt := (yX1_doorsHere, some (.int), 6, 145, [])
def g_X1_doorsHere_0 (G : Gt) (E : Ev) (h : Hp) (k n : Nat) (a0 : Nat) (K : Int32 → Hp → Prop) : Prop :=
gR h (some a0) 1 1 fun r1 =>
rv h r1 10 (f_J2_iterator G h r1 (fun r11 h10 =>
V G E Y_X1_doorsHere cX1_doorsHere 4 (QM G E (kI K) xN) h10 k n 10 [(0, .ref a0), (1, .int (0 : Int32)), (2, va_rf r11)] []))
theorem s_X1_doorsHere_0 {G : Gt} {E : Ev} {h : Hp} {k0 n0 : Nat} {a0 : Nat} {K : Int32 → Hp → Prop} (hG : Base G) (hA : 1 ≤ k0) (hB : 4 ≤ n0) (hf : g_X1_doorsHere_0 G E h (k0 - 1) (n0 - 4) a0 K) : V G E Y_X1_doorsHere cX1_doorsHere 4 (QM G E (kI K) xN) h k0 n0 0 [(0, .ref a0)] [] := by
  obtain ⟨k, hk9⟩ : ∃ z, z = k0 - 1 := ⟨_, rfl⟩
  obtain ⟨n, hn9⟩ : ∃ z, z = n0 - 4 := ⟨_, rfl⟩
  rw [← hk9, ← hn9] at hf
  refine V.weak (k' := k + 1) (n' := n + 4) ?_ (by omega) (by omega)
  unfold g_X1_doorsHere_0 at hf
  refine v_iconst (v := 0) dX1_doorsHere_0 (by decide) ?_
  refine v_istore_n (i := 1) (lv' := [(0, .ref a0), (1, .int (0 : Int32))]) dX1_doorsHere_1 rfl (Nat.le_of_ble_eq_true rfl) rfl rfl ?_
  refine v_aload_n (i := 0) dX1_doorsHere_2 rfl rfl ?_
  replace hf := gR_e hf
  obtain ⟨w2, fs3, r1, hh4, hk5, hf⟩ := hf
  refine v_getf (T := TX1) (ci := 1) 1 dX1_doorsHere_3 q190 rfl in_X1 (Nat.le_of_ble_eq_true rfl) (Or.inl rfl) hh4 hk5 ?_
  obtain ⟨a6, rfl⟩ := rv_s hf
  replace hf := rv_e hf
  obtain ⟨w7, fs8, hh9, hf⟩ := hf
  refine v_callV (mc := 1) (ms := 4) 0 dX1_doorsHere_6 (m_J2_iterator hG hf) rfl hh9 rfl (lw_V q315 q316 q317 q92 q318) rfl (by decide +kernel) (by decide) rfl (cat_len (Nat.le_of_ble_eq_true rfl)) (kk_R fun r11 h10 hg => ?_) (fun _ _ _ hx => hx.elim)
  replace hf := hg
  clear hg
  refine v_qstore_n (i := 2) (r := r11) (lv' := [(0, .ref a0), (1, .int (0 : Int32)), (2, va_rf r11)]) dX1_doorsHere_9 rfl (Nat.le_of_ble_eq_true rfl) rfl rfl ?_
  exact V.weak hf (by omega) (by omega)
def g_X1_doorsHere_10 (G : Gt) (E : Ev) (h : Hp) (k n : Nat) (a0 : Nat) (i_1 : Int32) (r_2 : Option Nat) (K : Int32 → Hp → Prop) : Prop :=
rv h r_2 11 (f_J8_hasNext G h r_2 (fun i6 h5 =>
((i6 = 0 → K i_1 h5) ∧
(¬ (i6 = 0) → rv h5 r_2 11 (f_J8_next G h5 r_2 (fun r12 h11 =>
(oc h11 r12 5 ∧ gI h11 (some a0) 1 3 fun i13 =>
rv h11 (some a0) 1 (f_X1_isRoom G h11 (some a0) i13 (fun i22 h21 =>
((i22 = 0 → V G E Y_X1_doorsHere cX1_doorsHere 4 (QM G E (kI K) xN) h21 k n 10 [(0, .ref a0), (1, .int (i_1 + (0 : Int32))), (2, va_rf r_2)] []) ∧
(¬ (i22 = 0) → rv h21 (some a0) 1 (f_X1_canGo G h21 (some a0) r12 (fun i28 h27 =>
((i28 = 0 → V G E Y_X1_doorsHere cX1_doorsHere 4 (QM G E (kI K) xN) h27 k n 10 [(0, .ref a0), (1, .int (i_1 + (0 : Int32))), (2, va_rf r_2)] []) ∧
(¬ (i28 = 0) → V G E Y_X1_doorsHere cX1_doorsHere 4 (QM G E (kI K) xN) h27 k n 10 [(0, .ref a0), (1, .int (i_1 + (1 : Int32))), (2, va_rf r_2)] [])))))))))))))))
theorem s_X1_doorsHere_10 {G : Gt} {E : Ev} {h : Hp} {k0 n0 : Nat} {a0 : Nat} {i_1 : Int32} {r_2 : Option Nat} {K : Int32 → Hp → Prop} (hG : Base G) (hA : 0 ≤ k0) (hB : 0 ≤ n0) (hf : g_X1_doorsHere_10 G E h (k0 - 0) (n0 - 0) a0 i_1 r_2 K) : V G E Y_X1_doorsHere cX1_doorsHere 4 (QM G E (kI K) xN) h k0 n0 10 [(0, .ref a0), (1, .int i_1), (2, va_rf r_2)] [] := by
  obtain ⟨k, hk9⟩ : ∃ z, z = k0 - 0 := ⟨_, rfl⟩
  obtain ⟨n, hn9⟩ : ∃ z, z = n0 - 0 := ⟨_, rfl⟩
  rw [← hk9, ← hn9] at hf
  refine V.weak (k' := k + 0) (n' := n + 0) ?_ (by omega) (by omega)
  unfold g_X1_doorsHere_10 at hf
  refine v_qload_n (r := r_2) (i := 2) dX1_doorsHere_10 rfl rfl ?_
  obtain ⟨a1, rfl⟩ := rv_s hf
  replace hf := rv_e hf
  obtain ⟨w2, fs3, hh4, hf⟩ := hf
  refine V.addK0 ?_
  refine V.addN0 ?_
  refine v_callF (mc := 0) (ms := 0) 0 dX1_doorsHere_11 (m_J8_hasNext hG hf) rfl hh4 rfl (lw_F q339 q343 q345 q99 q347) (fun C9 => v_Fw C9 (by decide) q341 q340 q346 q344 q342) rfl (by decide +kernel) (by decide) rfl (cat_len (Nat.le_of_ble_eq_true rfl)) (kk_I fun i6 h5 hg => ?_) (fun _ _ _ hx => hx.elim)
  replace hf := hg
  clear hg
  refine v_if_eq 59 dX1_doorsHere_16 (by decide) (fun c7 => ?_) (fun c7 => ?_)
  · replace hf := hf.1 c7
    refine v_iload_n (i := 1) dX1_doorsHere_59 rfl rfl ?_
    exact v_iret dX1_doorsHere_60 rfl ⟨_, rfl, hf⟩
  · replace hf := hf.2 c7
    refine v_qload_n (r := (some a1)) (i := 2) dX1_doorsHere_19 rfl rfl ?_
    replace hf := rv_e hf
    obtain ⟨w8, fs9, hh10, hf⟩ := hf
    refine V.addK0 ?_
    refine V.addN0 ?_
    refine v_callF (mc := 0) (ms := 0) 0 dX1_doorsHere_20 (m_J8_next hG hf) rfl hh10 rfl (lw_F q361 q364 q366 q99 q368) (fun C9 => v_Fw C9 (by decide) q363 q362 q367 q365 q342) rfl (by decide +kernel) (by decide) rfl (cat_len (Nat.le_of_ble_eq_true rfl)) (kk_R fun r12 h11 hg => ?_) (fun _ _ _ hx => hx.elim)
    replace hf := hg
    clear hg
    obtain ⟨hoc, hf⟩ := hf
    refine v_castQS (r := r12) dX1_doorsHere_25 q499 hoc rfl ?_
    refine v_qstore_n (i := 3) (r := r12) (lv' := [(0, .ref a0), (1, .int i_1), (2, va_rf (some a1)), (3, va_rf r12)]) dX1_doorsHere_28 rfl (Nat.le_of_ble_eq_true rfl) rfl rfl ?_
    refine v_iload_n (i := 1) dX1_doorsHere_29 rfl rfl ?_
    refine v_aload_n (i := 0) dX1_doorsHere_30 rfl rfl ?_
    refine v_aload_n (i := 0) dX1_doorsHere_31 rfl rfl ?_
    replace hf := gI_e hf
    obtain ⟨w14, fs15, i13, hh16, hk17, hf⟩ := hf
    refine v_getf (T := TX1) (ci := 1) 3 dX1_doorsHere_32 q193 rfl in_X1 (Nat.le_of_ble_eq_true rfl) (Or.inl rfl) hh16 hk17 ?_
    replace hf := rv_e hf
    obtain ⟨w18, fs19, hh20, hf⟩ := hf
    refine V.addK0 ?_
    refine V.addN0 ?_
    refine v_callV (mc := 0) (ms := 0) 1 dX1_doorsHere_35 (m_X1_isRoom hG hf) rfl hh20 rfl (lw_V q638 q639 q640 q89 q641) rfl (by decide +kernel) (by decide) rfl (cat_len (Nat.le_of_ble_eq_true rfl)) (kk_I fun i22 h21 hg => ?_) (fun _ _ _ hx => hx.elim)
    replace hf := hg
    clear hg
    refine v_if_eq 53 dX1_doorsHere_38 (by decide) (fun c23 => ?_) (fun c23 => ?_)
    · replace hf := hf.1 c23
      refine v_iconst (v := 0) dX1_doorsHere_53 (by decide) ?_
      refine v_iadd dX1_doorsHere_54 ?_
      refine v_istore_n (i := 1) (lv' := [(0, .ref a0), (1, .int (i_1 + (0 : Int32))), (2, va_rf (some a1)), (3, va_rf r12)]) dX1_doorsHere_55 rfl (Nat.le_of_ble_eq_true rfl) rfl rfl ?_
      refine v_goto 10 dX1_doorsHere_56 (by decide) ?_
      refine V.lp (lv' := [(0, .ref a0), (1, .int (i_1 + (0 : Int32))), (2, va_rf (some a1))]) [0, 1, 2] rfl ?_
      exact V.weak hf (by omega) (by omega)
    · replace hf := hf.2 c23
      refine v_aload_n (i := 0) dX1_doorsHere_41 rfl rfl ?_
      refine v_qload_n (r := r12) (i := 3) dX1_doorsHere_42 rfl rfl ?_
      replace hf := rv_e hf
      obtain ⟨w24, fs25, hh26, hf⟩ := hf
      refine V.addK0 ?_
      refine V.addN0 ?_
      refine v_callV (mc := 0) (ms := 0) 1 dX1_doorsHere_43 (m_X1_canGo hG hf) rfl hh26 rfl (lw_V q1751 q1753 qs25 q89 q1754) rfl (by decide +kernel) (by decide) rfl (cat_len (Nat.le_of_ble_eq_true rfl)) (kk_I fun i28 h27 hg => ?_) (fun _ _ _ hx => hx.elim)
      replace hf := hg
      clear hg
      refine v_if_eq 53 dX1_doorsHere_46 (by decide) (fun c29 => ?_) (fun c29 => ?_)
      · replace hf := hf.1 c29
        refine v_iconst (v := 0) dX1_doorsHere_53 (by decide) ?_
        refine v_iadd dX1_doorsHere_54 ?_
        refine v_istore_n (i := 1) (lv' := [(0, .ref a0), (1, .int (i_1 + (0 : Int32))), (2, va_rf (some a1)), (3, va_rf r12)]) dX1_doorsHere_55 rfl (Nat.le_of_ble_eq_true rfl) rfl rfl ?_
        refine v_goto 10 dX1_doorsHere_56 (by decide) ?_
        refine V.lp (lv' := [(0, .ref a0), (1, .int (i_1 + (0 : Int32))), (2, va_rf (some a1))]) [0, 1, 2] rfl ?_
        exact V.weak hf (by omega) (by omega)
      · replace hf := hf.2 c29
        refine v_iconst (v := 1) dX1_doorsHere_49 (by decide) ?_
        refine v_goto 54 dX1_doorsHere_50 (by decide) ?_
        refine v_iadd dX1_doorsHere_54 ?_
        refine v_istore_n (i := 1) (lv' := [(0, .ref a0), (1, .int (i_1 + (1 : Int32))), (2, va_rf (some a1)), (3, va_rf r12)]) dX1_doorsHere_55 rfl (Nat.le_of_ble_eq_true rfl) rfl rfl ?_
        refine v_goto 10 dX1_doorsHere_56 (by decide) ?_
        refine V.lp (lv' := [(0, .ref a0), (1, .int (i_1 + (1 : Int32))), (2, va_rf (some a1))]) [0, 1, 2] rfl ?_
        exact V.weak hf (by omega) (by omega)
theorem b_X1_doorsHere {G : Gt} {h : Hp} {mc ms : Nat} {a0 : Nat} {K : Int32 → Hp → Prop} (hG : Base G) (hf : ∀ E : Ev, V G E Y_X1_doorsHere cX1_doorsHere 4 (QM G E (kI K) xN) h mc ms 0 [(0, .ref a0)] []) : MM G Y_X1_doorsHere cX1_doorsHere 4 mc ms [.ref a0] h (kI K) xN := mm_of hG (by decide +kernel) rfl (ac_c rfl ac_nil) (Nat.le_of_ble_eq_true rfl) (fun E _ _ => hf E)
abbrev Y_X1_ofWalker : Yt := (yX1_ofWalker, some (.int), 7, 168, [])
def f_X1_ofWalker (G : Gt) (h : Hp) (k n : Nat) (t_0 : Option Nat) (i_1 : Int32) (K : Int32 → Hp → Prop) : Prop :=
((i_1 = (0 : Int32) → gR h t_0 1 0 fun r1 =>
rv h r1 10 (f_J2_isEmpty G h r1 (fun i11 h10 =>
((i11 = 0 → gI h10 t_0 1 3 fun i13 =>
K i13 h10) ∧
(¬ (i11 = 0) → K (-1015 : Int32) h10))))) ∧
(i_1 = (1 : Int32) → gI h t_0 1 4 fun i18 =>
K i18 h) ∧
(i_1 = (2 : Int32) → gR h t_0 1 2 fun r23 =>
aI h r23 0 (i_1 - (2 : Int32)) fun i34 =>
K i34 h) ∧
(i_1 = (3 : Int32) → gR h t_0 1 2 fun r35 =>
aI h r35 0 (i_1 - (2 : Int32)) fun i46 =>
K i46 h) ∧
(i_1 = (4 : Int32) → gR h t_0 1 2 fun r47 =>
aI h r47 0 (i_1 - (2 : Int32)) fun i58 =>
K i58 h) ∧
(i_1 = (5 : Int32) → rv h t_0 1 (dI G Y_X1_doorsHere cX1_doorsHere 4 [va_rf t_0] h k n (fun i63 h62 k66 n67 =>
K i63 h62) xN)) ∧
(i_1.toInt < 0 ∨ 5 < i_1.toInt → K (-1012 : Int32) h))
theorem m_X1_ofWalker {G : Gt} {h : Hp} {mc ms : Nat} {a0 : Nat} {i_1 : Int32} {K : Int32 → Hp → Prop} (hG : Base G) (hA : 0 ≤ mc) (hB : 0 ≤ ms) (hf : f_X1_ofWalker G h (mc - 0) (ms - 0) (some a0) i_1 K) : MM G Y_X1_ofWalker cX1_ofWalker 2 mc ms [.ref a0, .int i_1] h (kI K) xN := by
  refine mm_of hG (by decide +kernel) rfl (ac_c rfl (ac_c rfl ac_nil)) (Nat.le_of_ble_eq_true rfl) (fun E _ _ => ?_)
  obtain ⟨k, hk9⟩ : ∃ z, z = mc - 0 := ⟨_, rfl⟩
  obtain ⟨n, hn9⟩ : ∃ z, z = ms - 0 := ⟨_, rfl⟩
  rw [← hk9, ← hn9] at hf
  refine V.weak (k' := k + 0) (n' := n + 0) ?_ (by omega) (by omega)
  show V G E Y_X1_ofWalker cX1_ofWalker 2 (QM G E (kI K) xN) h (k + 0) (n + 0) 0 [(0, .ref a0), (1, .int i_1)] []
  unfold f_X1_ofWalker at hf
  refine v_iload_n (i := 1) dX1_ofWalker_0 rfl rfl ?_
  have hx : i_1.toInt = 0 ∨ i_1.toInt = 1 ∨ i_1.toInt = 2 ∨ i_1.toInt = 3 ∨ i_1.toInt = 4 ∨ i_1.toInt = 5 ∨ (i_1.toInt < 0 ∨ 5 < i_1.toInt) := by omega
  rcases hx with hx | hx | hx | hx | hx | hx | hx
  · have e9 : i_1 = (0 : Int32) := Int32.toInt_inj.mp hx
    replace hf := hf.1 e9
    refine v_tableAt (v := (0 : Int32)) (off := 39) 40 dX1_ofWalker_1 e9 (by decide) (by decide) (by decide) (by decide) ?_
    refine v_qload_n (r := (some a0)) (i := 0) dX1_ofWalker_40 rfl rfl ?_
    replace hf := gR_e hf
    obtain ⟨w2, fs3, r1, hh4, hk5, hf⟩ := hf
    refine v_getf (T := TX1) (ci := 1) 0 dX1_ofWalker_41 q188 rfl in_X1 (Nat.le_of_ble_eq_true rfl) (Or.inl rfl) hh4 hk5 ?_
    obtain ⟨a6, rfl⟩ := rv_s hf
    replace hf := rv_e hf
    obtain ⟨w7, fs8, hh9, hf⟩ := hf
    refine V.addK0 ?_
    refine V.addN0 ?_
    refine v_callV (mc := 0) (ms := 0) 0 dX1_ofWalker_44 (m_J2_isEmpty hG hf) rfl hh9 rfl (lw_V q773 q774 q775 q92 q776) rfl (by decide +kernel) (by decide) rfl (cat_len (Nat.le_of_ble_eq_true rfl)) (kk_I fun i11 h10 hg => ?_) (fun _ _ _ hx => hx.elim)
    replace hf := hg
    clear hg
    refine v_if_eq 56 dX1_ofWalker_47 (by decide) (fun c12 => ?_) (fun c12 => ?_)
    · replace hf := hf.1 c12
      refine v_qload_n (r := (some a0)) (i := 0) dX1_ofWalker_56 rfl rfl ?_
      replace hf := gI_e hf
      obtain ⟨w14, fs15, i13, hh16, hk17, hf⟩ := hf
      refine v_getf (T := TX1) (ci := 1) 3 dX1_ofWalker_57 q193 rfl in_X1 (Nat.le_of_ble_eq_true rfl) (Or.inl rfl) hh16 hk17 ?_
      refine v_goto 91 dX1_ofWalker_60 (by decide) ?_
      exact v_iret dX1_ofWalker_91 rfl ⟨_, rfl, hf⟩
    · replace hf := hf.2 c12
      refine v_sipush (v := -1015) dX1_ofWalker_50 (by decide) ?_
      refine v_goto 91 dX1_ofWalker_53 (by decide) ?_
      exact v_iret dX1_ofWalker_91 rfl ⟨_, rfl, hf⟩
  · have e9 : i_1 = (1 : Int32) := Int32.toInt_inj.mp hx
    replace hf := hf.2.1 e9
    refine v_tableAt (v := (1 : Int32)) (off := 62) 63 dX1_ofWalker_1 e9 (by decide) (by decide) (by decide) (by decide) ?_
    refine v_qload_n (r := (some a0)) (i := 0) dX1_ofWalker_63 rfl rfl ?_
    replace hf := gI_e hf
    obtain ⟨w19, fs20, i18, hh21, hk22, hf⟩ := hf
    refine v_getf (T := TX1) (ci := 1) 4 dX1_ofWalker_64 q195 rfl in_X1 (Nat.le_of_ble_eq_true rfl) (Or.inl rfl) hh21 hk22 ?_
    refine v_goto 91 dX1_ofWalker_67 (by decide) ?_
    exact v_iret dX1_ofWalker_91 rfl ⟨_, rfl, hf⟩
  · have e9 : i_1 = (2 : Int32) := Int32.toInt_inj.mp hx
    replace hf := hf.2.2.1 e9
    refine v_tableAt (v := (2 : Int32)) (off := 69) 70 dX1_ofWalker_1 e9 (by decide) (by decide) (by decide) (by decide) ?_
    refine v_qload_n (r := (some a0)) (i := 0) dX1_ofWalker_70 rfl rfl ?_
    replace hf := gR_e hf
    obtain ⟨w24, fs25, r23, hh26, hk27, hf⟩ := hf
    refine v_getf (T := TX1) (ci := 1) 2 dX1_ofWalker_71 q192 rfl in_X1 (Nat.le_of_ble_eq_true rfl) (Or.inl rfl) hh26 hk27 ?_
    refine v_iload_n (i := 1) dX1_ofWalker_74 rfl rfl ?_
    refine v_iconst (v := 2) dX1_ofWalker_75 (by decide) ?_
    refine v_isub dX1_ofWalker_76 ?_
    obtain ⟨a28, rfl⟩ := aI_s hf
    replace hf := aI_e hf
    obtain ⟨w29, N30, f31, hh32, hi33, i34, ei34, hf⟩ := hf
    refine v_iald dX1_ofWalker_77 hh32 hi33 ?_
    rw [← ei34]
    refine v_goto 91 dX1_ofWalker_78 (by decide) ?_
    exact v_iret dX1_ofWalker_91 rfl ⟨_, rfl, hf⟩
  · have e9 : i_1 = (3 : Int32) := Int32.toInt_inj.mp hx
    replace hf := hf.2.2.2.1 e9
    refine v_tableAt (v := (3 : Int32)) (off := 69) 70 dX1_ofWalker_1 e9 (by decide) (by decide) (by decide) (by decide) ?_
    refine v_qload_n (r := (some a0)) (i := 0) dX1_ofWalker_70 rfl rfl ?_
    replace hf := gR_e hf
    obtain ⟨w36, fs37, r35, hh38, hk39, hf⟩ := hf
    refine v_getf (T := TX1) (ci := 1) 2 dX1_ofWalker_71 q192 rfl in_X1 (Nat.le_of_ble_eq_true rfl) (Or.inl rfl) hh38 hk39 ?_
    refine v_iload_n (i := 1) dX1_ofWalker_74 rfl rfl ?_
    refine v_iconst (v := 2) dX1_ofWalker_75 (by decide) ?_
    refine v_isub dX1_ofWalker_76 ?_
    obtain ⟨a40, rfl⟩ := aI_s hf
    replace hf := aI_e hf
    obtain ⟨w41, N42, f43, hh44, hi45, i46, ei46, hf⟩ := hf
    refine v_iald dX1_ofWalker_77 hh44 hi45 ?_
    rw [← ei46]
    refine v_goto 91 dX1_ofWalker_78 (by decide) ?_
    exact v_iret dX1_ofWalker_91 rfl ⟨_, rfl, hf⟩
  · have e9 : i_1 = (4 : Int32) := Int32.toInt_inj.mp hx
    replace hf := hf.2.2.2.2.1 e9
    refine v_tableAt (v := (4 : Int32)) (off := 69) 70 dX1_ofWalker_1 e9 (by decide) (by decide) (by decide) (by decide) ?_
    refine v_qload_n (r := (some a0)) (i := 0) dX1_ofWalker_70 rfl rfl ?_
    replace hf := gR_e hf
    obtain ⟨w48, fs49, r47, hh50, hk51, hf⟩ := hf
    refine v_getf (T := TX1) (ci := 1) 2 dX1_ofWalker_71 q192 rfl in_X1 (Nat.le_of_ble_eq_true rfl) (Or.inl rfl) hh50 hk51 ?_
    refine v_iload_n (i := 1) dX1_ofWalker_74 rfl rfl ?_
    refine v_iconst (v := 2) dX1_ofWalker_75 (by decide) ?_
    refine v_isub dX1_ofWalker_76 ?_
    obtain ⟨a52, rfl⟩ := aI_s hf
    replace hf := aI_e hf
    obtain ⟨w53, N54, f55, hh56, hi57, i58, ei58, hf⟩ := hf
    refine v_iald dX1_ofWalker_77 hh56 hi57 ?_
    rw [← ei58]
    refine v_goto 91 dX1_ofWalker_78 (by decide) ?_
    exact v_iret dX1_ofWalker_91 rfl ⟨_, rfl, hf⟩
  · have e9 : i_1 = (5 : Int32) := Int32.toInt_inj.mp hx
    replace hf := hf.2.2.2.2.2.1 e9
    refine v_tableAt (v := (5 : Int32)) (off := 80) 81 dX1_ofWalker_1 e9 (by decide) (by decide) (by decide) (by decide) ?_
    refine v_qload_n (r := (some a0)) (i := 0) dX1_ofWalker_81 rfl rfl ?_
    replace hf := rv_e hf
    obtain ⟨w59, fs60, hh61, hf⟩ := hf
    obtain ⟨mc64, ms65, hkmc64, hnms65, hM⟩ := hf
    refine V.weak (k' := ((k - mc64) + 0) + mc64) (n' := ((n - ms65) + 0) + ms65) ?_ (by omega) (by omega)
    refine v_callV 0 dX1_ofWalker_82 hM rfl hh61 rfl (lw_V q1747 q1749 qs24 q89 q1750) rfl (by decide +kernel) (by decide) rfl (cat_len (Nat.le_of_ble_eq_true rfl)) (kk_I fun i63 h62 hg => ?_) (fun _ _ _ hx => hx.elim)
    have hf := hg
    clear hg
    refine v_goto 91 dX1_ofWalker_85 (by decide) ?_
    exact v_iret dX1_ofWalker_91 rfl ⟨_, rfl, hf⟩
  · replace hf := hf.2.2.2.2.2.2 hx
    refine v_tableOut 88 dX1_ofWalker_1 hx (by decide) ?_
    refine v_sipush (v := -1012) dX1_ofWalker_88 (by decide) ?_
    exact v_iret dX1_ofWalker_91 rfl ⟨_, rfl, hf⟩
abbrev Y_X1_isLowered : Yt := (yX1_isLowered, some (.boolean), 2, 61, [])
def f_X1_isLowered (G : Gt) (h : Hp) (r_0 : Option Nat) (i_1 : Int32) (i_2 : Int32) (K : Int32 → Hp → Prop) : Prop :=
aI h r_0 0 i_1 fun i7 =>
((i7 ≤ i_2 → aI h r_0 0 i_1 fun i14 =>
f_J10_min G h i14 i_2 (fun i16 h15 =>
sI h15 r_0 i_1 i16 fun h21 =>
K (0 : Int32) h21)) ∧
(¬ (i7 ≤ i_2) → aI h r_0 0 i_1 fun i27 =>
f_J10_min G h i27 i_2 (fun i29 h28 =>
sI h28 r_0 i_1 i29 fun h34 =>
K (1 : Int32) h34)))
theorem m_X1_isLowered {G : Gt} {h : Hp} {r_0 : Option Nat} {i_1 : Int32} {i_2 : Int32} {K : Int32 → Hp → Prop} (hG : Base G) (hf : f_X1_isLowered G h r_0 i_1 i_2 K) : MM G Y_X1_isLowered cX1_isLowered 4 0 0 [va_rf r_0, .int i_1, .int i_2] h (kI K) xN := by
  refine mm_of hG (by decide +kernel) rfl (ac_c (rf_cat _) (ac_c rfl (ac_c rfl ac_nil))) (Nat.le_of_ble_eq_true rfl) (fun E _ _ => ?_)
  show V G E Y_X1_isLowered cX1_isLowered 4 (QM G E (kI K) xN) h 0 0 0 [(0, va_rf r_0), (1, .int i_1), (2, .int i_2)] []
  unfold f_X1_isLowered at hf
  refine v_iload_n (i := 2) dX1_isLowered_0 rfl rfl ?_
  refine v_qload_n (r := r_0) (i := 0) dX1_isLowered_1 rfl rfl ?_
  refine v_iload_n (i := 1) dX1_isLowered_2 rfl rfl ?_
  obtain ⟨a1, rfl⟩ := aI_s hf
  replace hf := aI_e hf
  obtain ⟨w2, N3, f4, hh5, hi6, i7, ei7, hf⟩ := hf
  refine v_iald dX1_isLowered_3 hh5 hi6 ?_
  rw [← ei7]
  refine v_icmp_ge 11 dX1_isLowered_4 (by decide) (fun c8 => ?_) (fun c8 => ?_)
  · replace hf := hf.1 c8
    refine v_iconst (v := 0) dX1_isLowered_11 (by decide) ?_
    refine v_istore_n (i := 3) (lv' := [(0, va_rf (some a1)), (1, .int i_1), (2, .int i_2), (3, .int (0 : Int32))]) dX1_isLowered_12 rfl (Nat.le_of_ble_eq_true rfl) rfl rfl ?_
    refine v_qload_n (r := (some a1)) (i := 0) dX1_isLowered_13 rfl rfl ?_
    refine v_iload_n (i := 1) dX1_isLowered_14 rfl rfl ?_
    refine v_qload_n (r := (some a1)) (i := 0) dX1_isLowered_15 rfl rfl ?_
    refine v_iload_n (i := 1) dX1_isLowered_16 rfl rfl ?_
    replace hf := aI_e hf
    obtain ⟨w9, N10, f11, hh12, hi13, i14, ei14, hf⟩ := hf
    refine v_iald dX1_isLowered_17 hh12 hi13 ?_
    rw [← ei14]
    refine v_iload_n (i := 2) dX1_isLowered_18 rfl rfl ?_
    refine V.addK0 ?_
    refine V.addN0 ?_
    refine v_callS (mc := 0) (ms := 0) 2 dX1_isLowered_19 (m_J10_min hG hf) rfl (lw_S q1661 q493 q102 q494) rfl (by decide +kernel) (by decide) rfl (cat_len (Nat.le_of_ble_eq_true rfl)) (kk_I fun i16 h15 hg => ?_) (fun _ _ _ hx => hx.elim)
    replace hf := hg
    clear hg
    replace hf := sI_e hf
    obtain ⟨N17, f18, hh19, hi20, hf⟩ := hf
    refine v_iast dX1_isLowered_22 hh19 hi20 ?_
    obtain ⟨h21, eh21⟩ : ∃ z, z = hs h15 a1 (true, .inl (0, N17, .inl (upd f18 (i_1).toNatClampNeg (i16)))) := ⟨_, rfl⟩
    try rw [← eh21] at hf
    rw [← eh21]
    refine v_iload_n (i := 3) dX1_isLowered_23 rfl rfl ?_
    exact v_zret dX1_isLowered_24 rfl (by decide) ⟨_, rfl, hf⟩
  · replace hf := hf.2 c8
    refine v_iconst (v := 1) dX1_isLowered_7 (by decide) ?_
    refine v_goto 12 dX1_isLowered_8 (by decide) ?_
    refine v_istore_n (i := 3) (lv' := [(0, va_rf (some a1)), (1, .int i_1), (2, .int i_2), (3, .int (1 : Int32))]) dX1_isLowered_12 rfl (Nat.le_of_ble_eq_true rfl) rfl rfl ?_
    refine v_qload_n (r := (some a1)) (i := 0) dX1_isLowered_13 rfl rfl ?_
    refine v_iload_n (i := 1) dX1_isLowered_14 rfl rfl ?_
    refine v_qload_n (r := (some a1)) (i := 0) dX1_isLowered_15 rfl rfl ?_
    refine v_iload_n (i := 1) dX1_isLowered_16 rfl rfl ?_
    replace hf := aI_e hf
    obtain ⟨w22, N23, f24, hh25, hi26, i27, ei27, hf⟩ := hf
    refine v_iald dX1_isLowered_17 hh25 hi26 ?_
    rw [← ei27]
    refine v_iload_n (i := 2) dX1_isLowered_18 rfl rfl ?_
    refine V.addK0 ?_
    refine V.addN0 ?_
    refine v_callS (mc := 0) (ms := 0) 2 dX1_isLowered_19 (m_J10_min hG hf) rfl (lw_S q1661 q493 q102 q494) rfl (by decide +kernel) (by decide) rfl (cat_len (Nat.le_of_ble_eq_true rfl)) (kk_I fun i29 h28 hg => ?_) (fun _ _ _ hx => hx.elim)
    replace hf := hg
    clear hg
    replace hf := sI_e hf
    obtain ⟨N30, f31, hh32, hi33, hf⟩ := hf
    refine v_iast dX1_isLowered_22 hh32 hi33 ?_
    obtain ⟨h34, eh34⟩ : ∃ z, z = hs h28 a1 (true, .inl (0, N30, .inl (upd f31 (i_1).toNatClampNeg (i29)))) := ⟨_, rfl⟩
    try rw [← eh34] at hf
    rw [← eh34]
    refine v_iload_n (i := 3) dX1_isLowered_23 rfl rfl ?_
    exact v_zret dX1_isLowered_24 rfl (by decide) ⟨_, rfl, hf⟩
abbrev Y_X1_waits : Yt := (yX1_waits, some (.boolean), 3, 84, [])
def g_X1_waits_0 (G : Gt) (E : Ev) (h : Hp) (k n : Nat) (a0 : Nat) (r_1 : Option Nat) (K : Int32 → Hp → Prop) : Prop :=
V G E Y_X1_waits cX1_waits 4 (QM G E (kI K) xN) h k n 4 [(1, va_rf r_1), (2, .int (0 : Int32)), (3, .int (0 : Int32))] []
theorem s_X1_waits_0 {G : Gt} {E : Ev} {h : Hp} {k0 n0 : Nat} {a0 : Nat} {r_1 : Option Nat} {K : Int32 → Hp → Prop} (hG : Base G) (hA : 0 ≤ k0) (hB : 0 ≤ n0) (hf : g_X1_waits_0 G E h (k0 - 0) (n0 - 0) a0 r_1 K) : V G E Y_X1_waits cX1_waits 4 (QM G E (kI K) xN) h k0 n0 0 [(0, .ref a0), (1, va_rf r_1)] [] := by
  obtain ⟨k, hk9⟩ : ∃ z, z = k0 - 0 := ⟨_, rfl⟩
  obtain ⟨n, hn9⟩ : ∃ z, z = n0 - 0 := ⟨_, rfl⟩
  rw [← hk9, ← hn9] at hf
  refine V.weak (k' := k + 0) (n' := n + 0) ?_ (by omega) (by omega)
  unfold g_X1_waits_0 at hf
  refine v_iconst (v := 0) dX1_waits_0 (by decide) ?_
  refine v_istore_n (i := 2) (lv' := [(0, .ref a0), (1, va_rf r_1), (2, .int (0 : Int32))]) dX1_waits_1 rfl (Nat.le_of_ble_eq_true rfl) rfl rfl ?_
  refine v_iconst (v := 0) dX1_waits_2 (by decide) ?_
  refine v_istore_n (i := 3) (lv' := [(0, .ref a0), (1, va_rf r_1), (2, .int (0 : Int32)), (3, .int (0 : Int32))]) dX1_waits_3 rfl (Nat.le_of_ble_eq_true rfl) rfl rfl ?_
  refine V.lp (lv' := [(1, va_rf r_1), (2, .int (0 : Int32)), (3, .int (0 : Int32))]) [1, 2, 3] rfl ?_
  exact V.weak hf (by omega) (by omega)
def g_X1_waits_4 (G : Gt) (E : Ev) (h : Hp) (k n : Nat) (r_1 : Option Nat) (i_2 : Int32) (i_3 : Int32) (K : Int32 → Hp → Prop) : Prop :=
aL h r_1 fun i6 =>
((i6 ≤ i_3 → (narrow .boolean (.int i_2) = .int i_2 ∧ K i_2 h)) ∧
(¬ (i6 ≤ i_3) → aI h r_1 0 i_3 fun i13 =>
(((10000 : Int32) ≤ i13 → V G E Y_X1_waits cX1_waits 4 (QM G E (kI K) xN) h k n 4 [(1, va_rf r_1), (2, .int (i_2 ||| (0 : Int32))), (3, .int (i_3 + (1 : Int32)))] []) ∧
(¬ ((10000 : Int32) ≤ i13) → aI h r_1 0 i_3 fun i20 =>
f_X1_isLowered G h r_1 (i_3 ^^^ (1 : Int32)) (i20 + (1 : Int32)) (fun i22 h21 =>
((i22 = 0 → V G E Y_X1_waits cX1_waits 4 (QM G E (kI K) xN) h21 k n 4 [(1, va_rf r_1), (2, .int (i_2 ||| (0 : Int32))), (3, .int (i_3 + (1 : Int32)))] []) ∧
(¬ (i22 = 0) → V G E Y_X1_waits cX1_waits 4 (QM G E (kI K) xN) h21 k n 4 [(1, va_rf r_1), (2, .int (i_2 ||| (1 : Int32))), (3, .int (i_3 + (1 : Int32)))] [])))))))
theorem s_X1_waits_4 {G : Gt} {E : Ev} {h : Hp} {k0 n0 : Nat} {r_1 : Option Nat} {i_2 : Int32} {i_3 : Int32} {K : Int32 → Hp → Prop} (hG : Base G) (hA : 0 ≤ k0) (hB : 0 ≤ n0) (hf : g_X1_waits_4 G E h (k0 - 0) (n0 - 0) r_1 i_2 i_3 K) : V G E Y_X1_waits cX1_waits 4 (QM G E (kI K) xN) h k0 n0 4 [(1, va_rf r_1), (2, .int i_2), (3, .int i_3)] [] := by
  obtain ⟨k, hk9⟩ : ∃ z, z = k0 - 0 := ⟨_, rfl⟩
  obtain ⟨n, hn9⟩ : ∃ z, z = n0 - 0 := ⟨_, rfl⟩
  rw [← hk9, ← hn9] at hf
  refine V.weak (k' := k + 0) (n' := n + 0) ?_ (by omega) (by omega)
  unfold g_X1_waits_4 at hf
  refine v_iload_n (i := 3) dX1_waits_4 rfl rfl ?_
  refine v_qload_n (r := r_1) (i := 1) dX1_waits_5 rfl rfl ?_
  obtain ⟨a1, rfl⟩ := aL_s hf
  replace hf := aL_e hf
  obtain ⟨w2, t3, x4, hh5, i6, ei6, hf⟩ := hf
  refine v_alen dX1_waits_6 hh5 ei6.symm ?_
  refine v_icmp_ge 48 dX1_waits_7 (by decide) (fun c7 => ?_) (fun c7 => ?_)
  · replace hf := hf.1 c7
    refine v_iload_n (i := 2) dX1_waits_48 rfl rfl ?_
    exact v_zret dX1_waits_49 rfl hf.1 ⟨_, rfl, hf.2⟩
  · replace hf := hf.2 c7
    refine v_iload_n (i := 2) dX1_waits_10 rfl rfl ?_
    refine v_qload_n (r := (some a1)) (i := 1) dX1_waits_11 rfl rfl ?_
    refine v_iload_n (i := 3) dX1_waits_12 rfl rfl ?_
    replace hf := aI_e hf
    obtain ⟨w8, N9, f10, hh11, hi12, i13, ei13, hf⟩ := hf
    refine v_iald dX1_waits_13 hh11 hi12 ?_
    rw [← ei13]
    refine v_sipush (v := 10000) dX1_waits_14 (by decide) ?_
    refine v_icmp_ge 39 dX1_waits_17 (by decide) (fun c14 => ?_) (fun c14 => ?_)
    · replace hf := hf.1 c14
      refine v_iconst (v := 0) dX1_waits_39 (by decide) ?_
      refine v_ior dX1_waits_40 ?_
      refine v_istore_n (i := 2) (lv' := [(1, va_rf (some a1)), (2, .int (i_2 ||| (0 : Int32))), (3, .int i_3)]) dX1_waits_41 rfl (Nat.le_of_ble_eq_true rfl) rfl rfl ?_
      refine v_iinc (i := 3) (v := i_3 + (1 : Int32)) (lv' := [(1, va_rf (some a1)), (2, .int (i_2 ||| (0 : Int32))), (3, .int (i_3 + (1 : Int32)))]) dX1_waits_42 rfl rfl (Nat.le_of_ble_eq_true rfl) rfl rfl ?_
      refine v_goto 4 dX1_waits_45 (by decide) ?_
      exact V.weak hf (by omega) (by omega)
    · replace hf := hf.2 c14
      refine v_qload_n (r := (some a1)) (i := 1) dX1_waits_20 rfl rfl ?_
      refine v_iload_n (i := 3) dX1_waits_21 rfl rfl ?_
      refine v_iconst (v := 1) dX1_waits_22 (by decide) ?_
      refine v_ixor dX1_waits_23 ?_
      refine v_qload_n (r := (some a1)) (i := 1) dX1_waits_24 rfl rfl ?_
      refine v_iload_n (i := 3) dX1_waits_25 rfl rfl ?_
      replace hf := aI_e hf
      obtain ⟨w15, N16, f17, hh18, hi19, i20, ei20, hf⟩ := hf
      refine v_iald dX1_waits_26 hh18 hi19 ?_
      rw [← ei20]
      refine v_iconst (v := 1) dX1_waits_27 (by decide) ?_
      refine v_iadd dX1_waits_28 ?_
      refine V.addK0 ?_
      refine V.addN0 ?_
      refine v_callS (mc := 0) (ms := 0) 3 dX1_waits_29 (m_X1_isLowered hG hf) rfl (lw_S q1779 q1780 q89 q1781) rfl (by decide +kernel) (by decide) rfl (cat_len (Nat.le_of_ble_eq_true rfl)) (kk_I fun i22 h21 hg => ?_) (fun _ _ _ hx => hx.elim)
      replace hf := hg
      clear hg
      refine v_if_eq 39 dX1_waits_32 (by decide) (fun c23 => ?_) (fun c23 => ?_)
      · replace hf := hf.1 c23
        refine v_iconst (v := 0) dX1_waits_39 (by decide) ?_
        refine v_ior dX1_waits_40 ?_
        refine v_istore_n (i := 2) (lv' := [(1, va_rf (some a1)), (2, .int (i_2 ||| (0 : Int32))), (3, .int i_3)]) dX1_waits_41 rfl (Nat.le_of_ble_eq_true rfl) rfl rfl ?_
        refine v_iinc (i := 3) (v := i_3 + (1 : Int32)) (lv' := [(1, va_rf (some a1)), (2, .int (i_2 ||| (0 : Int32))), (3, .int (i_3 + (1 : Int32)))]) dX1_waits_42 rfl rfl (Nat.le_of_ble_eq_true rfl) rfl rfl ?_
        refine v_goto 4 dX1_waits_45 (by decide) ?_
        exact V.weak hf (by omega) (by omega)
      · replace hf := hf.2 c23
        refine v_iconst (v := 1) dX1_waits_35 (by decide) ?_
        refine v_goto 40 dX1_waits_36 (by decide) ?_
        refine v_ior dX1_waits_40 ?_
        refine v_istore_n (i := 2) (lv' := [(1, va_rf (some a1)), (2, .int (i_2 ||| (1 : Int32))), (3, .int i_3)]) dX1_waits_41 rfl (Nat.le_of_ble_eq_true rfl) rfl rfl ?_
        refine v_iinc (i := 3) (v := i_3 + (1 : Int32)) (lv' := [(1, va_rf (some a1)), (2, .int (i_2 ||| (1 : Int32))), (3, .int (i_3 + (1 : Int32)))]) dX1_waits_42 rfl rfl (Nat.le_of_ble_eq_true rfl) rfl rfl ?_
        refine v_goto 4 dX1_waits_45 (by decide) ?_
        exact V.weak hf (by omega) (by omega)
theorem b_X1_waits {G : Gt} {h : Hp} {mc ms : Nat} {a0 : Nat} {r_1 : Option Nat} {K : Int32 → Hp → Prop} (hG : Base G) (hf : ∀ E : Ev, V G E Y_X1_waits cX1_waits 4 (QM G E (kI K) xN) h mc ms 0 [(0, .ref a0), (1, va_rf r_1)] []) : MM G Y_X1_waits cX1_waits 4 mc ms [.ref a0, va_rf r_1] h (kI K) xN := mm_of hG (by decide +kernel) rfl (ac_c rfl (ac_c (rf_cat _) ac_nil)) (Nat.le_of_ble_eq_true rfl) (fun E _ _ => hf E)
abbrev Y_X1_lowers : Yt := (yX1_lowers, some (.boolean), 4, 104, [])
def g_X1_lowers_0 (G : Gt) (E : Ev) (h : Hp) (k n : Nat) (a0 : Nat) (r_1 : Option Nat) (r_2 : Option Nat) (i_3 : Int32) (K : Int32 → Hp → Prop) : Prop :=
gR h (some a0) 1 0 fun r1 =>
rv h r1 10 (f_J2_get G h r1 i_3 (fun r11 h10 =>
(oc h10 r11 3 ∧ rv h10 r11 3 (f_X3_steps G h10 r11 (fun i17 h16 =>
V G E Y_X1_lowers cX1_lowers 8 (QM G E (kI K) xN) h16 k n 22 [(1, va_rf r_1), (2, va_rf r_2), (3, .int i_3), (4, .int (0 : Int32)), (5, .int i17), (6, .int (0 : Int32))] [])))))
theorem s_X1_lowers_0 {G : Gt} {E : Ev} {h : Hp} {k0 n0 : Nat} {a0 : Nat} {r_1 : Option Nat} {r_2 : Option Nat} {i_3 : Int32} {K : Int32 → Hp → Prop} (hG : Base G) (hA : 0 ≤ k0) (hB : 0 ≤ n0) (hf : g_X1_lowers_0 G E h (k0 - 0) (n0 - 0) a0 r_1 r_2 i_3 K) : V G E Y_X1_lowers cX1_lowers 8 (QM G E (kI K) xN) h k0 n0 0 [(0, .ref a0), (1, va_rf r_1), (2, va_rf r_2), (3, .int i_3)] [] := by
  obtain ⟨k, hk9⟩ : ∃ z, z = k0 - 0 := ⟨_, rfl⟩
  obtain ⟨n, hn9⟩ : ∃ z, z = n0 - 0 := ⟨_, rfl⟩
  rw [← hk9, ← hn9] at hf
  refine V.weak (k' := k + 0) (n' := n + 0) ?_ (by omega) (by omega)
  unfold g_X1_lowers_0 at hf
  refine v_iconst (v := 0) dX1_lowers_0 (by decide) ?_
  refine v_istore (i := 4) (lv' := [(0, .ref a0), (1, va_rf r_1), (2, va_rf r_2), (3, .int i_3), (4, .int (0 : Int32))]) dX1_lowers_1 (Nat.le_of_ble_eq_true rfl) rfl rfl ?_
  refine v_aload_n (i := 0) dX1_lowers_3 rfl rfl ?_
  replace hf := gR_e hf
  obtain ⟨w2, fs3, r1, hh4, hk5, hf⟩ := hf
  refine v_getf (T := TX1) (ci := 1) 0 dX1_lowers_4 q188 rfl in_X1 (Nat.le_of_ble_eq_true rfl) (Or.inl rfl) hh4 hk5 ?_
  refine v_iload_n (i := 3) dX1_lowers_7 rfl rfl ?_
  obtain ⟨a6, rfl⟩ := rv_s hf
  replace hf := rv_e hf
  obtain ⟨w7, fs8, hh9, hf⟩ := hf
  refine V.addK0 ?_
  refine V.addN0 ?_
  refine v_callV (mc := 0) (ms := 0) 1 dX1_lowers_8 (m_J2_get hG hf) rfl hh9 rfl (lw_V q660 q661 q662 q92 q663) rfl (by decide +kernel) (by decide) rfl (cat_len (Nat.le_of_ble_eq_true rfl)) (kk_R fun r11 h10 hg => ?_) (fun _ _ _ hx => hx.elim)
  replace hf := hg
  clear hg
  obtain ⟨hoc, hf⟩ := hf
  refine v_castQS (r := r11) dX1_lowers_11 q402 hoc rfl ?_
  obtain ⟨a12, rfl⟩ := rv_s hf
  replace hf := rv_e hf
  obtain ⟨w13, fs14, hh15, hf⟩ := hf
  refine V.addK0 ?_
  refine V.addN0 ?_
  refine v_callV (mc := 0) (ms := 0) 0 dX1_lowers_14 (m_X3_steps hG hf) rfl hh15 rfl (lw_V q1575 q1576 q1577 q100 q1578) rfl (by decide +kernel) (by decide) rfl (cat_len (Nat.le_of_ble_eq_true rfl)) (kk_I fun i17 h16 hg => ?_) (fun _ _ _ hx => hx.elim)
  replace hf := hg
  clear hg
  refine v_istore (i := 5) (lv' := [(0, .ref a0), (1, va_rf r_1), (2, va_rf r_2), (3, .int i_3), (4, .int (0 : Int32)), (5, .int i17)]) dX1_lowers_17 (Nat.le_of_ble_eq_true rfl) rfl rfl ?_
  refine v_iconst (v := 0) dX1_lowers_19 (by decide) ?_
  refine v_istore (i := 6) (lv' := [(0, .ref a0), (1, va_rf r_1), (2, va_rf r_2), (3, .int i_3), (4, .int (0 : Int32)), (5, .int i17), (6, .int (0 : Int32))]) dX1_lowers_20 (Nat.le_of_ble_eq_true rfl) rfl rfl ?_
  refine V.lp (lv' := [(1, va_rf r_1), (2, va_rf r_2), (3, .int i_3), (4, .int (0 : Int32)), (5, .int i17), (6, .int (0 : Int32))]) [1, 2, 3, 4, 5, 6] rfl ?_
  exact V.weak hf (by omega) (by omega)
def g_X1_lowers_22 (G : Gt) (E : Ev) (h : Hp) (k n : Nat) (r_1 : Option Nat) (r_2 : Option Nat) (i_3 : Int32) (i_4 : Int32) (i_5 : Int32) (i_6 : Int32) (K : Int32 → Hp → Prop) : Prop :=
(((2 : Int32) ≤ i_6 → (narrow .boolean (.int i_4) = .int i_4 ∧ K i_4 h)) ∧
(¬ ((2 : Int32) ≤ i_6) → aI h r_1 0 (((2 : Int32) * i_3) + i_6) fun i8 =>
(((10000 : Int32) ≤ i8 → V G E Y_X1_lowers cX1_lowers 8 (QM G E (kI K) xN) h k n 22 [(1, va_rf r_1), (2, va_rf r_2), (3, .int i_3), (4, .int i_4), (5, .int i_5), (6, .int (i_6 + (1 : Int32)))] []) ∧
(¬ ((10000 : Int32) ≤ i8) → gI h r_2 5 4 fun i10 =>
((¬ (i10 = 0) → V G E Y_X1_lowers cX1_lowers 8 (QM G E (kI K) xN) h k n 22 [(1, va_rf r_1), (2, va_rf r_2), (3, .int i_3), (4, .int i_4), (5, .int i_5), (6, .int (i_6 + (1 : Int32)))] []) ∧
(i10 = 0 → rv h r_2 5 (f_X5_isFor G h r_2 (i_6 + i_5) (fun i21 h20 =>
((i21 = 0 → V G E Y_X1_lowers cX1_lowers 8 (QM G E (kI K) xN) h20 k n 22 [(1, va_rf r_1), (2, va_rf r_2), (3, .int i_3), (4, .int i_4), (5, .int i_5), (6, .int (i_6 + (1 : Int32)))] []) ∧
(¬ (i21 = 0) → rv h20 r_2 5 (f_X5_beyond G h20 r_2 i_3 (fun i27 h26 =>
f_X1_isLowered G h26 r_1 (((2 : Int32) * i27) + ((i_6 + i_5) - (i_6 + i_5) / (2 : Int32) * (2 : Int32))) (i8 + i_5) (fun i29 h28 =>
V G E Y_X1_lowers cX1_lowers 8 (QM G E (kI K) xN) h28 k n 22 [(1, va_rf r_1), (2, va_rf r_2), (3, .int i_3), (4, .int (i_4 ||| i29)), (5, .int i_5), (6, .int (i_6 + (1 : Int32)))] [])))))))))))))
theorem s_X1_lowers_22 {G : Gt} {E : Ev} {h : Hp} {k0 n0 : Nat} {r_1 : Option Nat} {r_2 : Option Nat} {i_3 : Int32} {i_4 : Int32} {i_5 : Int32} {i_6 : Int32} {K : Int32 → Hp → Prop} (hG : Base G) (hA : 0 ≤ k0) (hB : 0 ≤ n0) (hf : g_X1_lowers_22 G E h (k0 - 0) (n0 - 0) r_1 r_2 i_3 i_4 i_5 i_6 K) : V G E Y_X1_lowers cX1_lowers 8 (QM G E (kI K) xN) h k0 n0 22 [(1, va_rf r_1), (2, va_rf r_2), (3, .int i_3), (4, .int i_4), (5, .int i_5), (6, .int i_6)] [] := by
  obtain ⟨k, hk9⟩ : ∃ z, z = k0 - 0 := ⟨_, rfl⟩
  obtain ⟨n, hn9⟩ : ∃ z, z = n0 - 0 := ⟨_, rfl⟩
  rw [← hk9, ← hn9] at hf
  refine V.weak (k' := k + 0) (n' := n + 0) ?_ (by omega) (by omega)
  unfold g_X1_lowers_22 at hf
  refine v_iload (i := 6) dX1_lowers_22 rfl ?_
  refine v_iconst (v := 2) dX1_lowers_24 (by decide) ?_
  refine v_icmp_ge 100 dX1_lowers_25 (by decide) (fun c1 => ?_) (fun c1 => ?_)
  · replace hf := hf.1 c1
    refine v_iload (i := 4) dX1_lowers_100 rfl ?_
    exact v_zret dX1_lowers_102 rfl hf.1 ⟨_, rfl, hf.2⟩
  · replace hf := hf.2 c1
    refine v_qload_n (r := r_1) (i := 1) dX1_lowers_28 rfl rfl ?_
    refine v_iconst (v := 2) dX1_lowers_29 (by decide) ?_
    refine v_iload_n (i := 3) dX1_lowers_30 rfl rfl ?_
    refine v_imul dX1_lowers_31 ?_
    refine v_iload (i := 6) dX1_lowers_32 rfl ?_
    refine v_iadd dX1_lowers_34 ?_
    obtain ⟨a2, rfl⟩ := aI_s hf
    replace hf := aI_e hf
    obtain ⟨w3, N4, f5, hh6, hi7, i8, ei8, hf⟩ := hf
    refine v_iald dX1_lowers_35 hh6 hi7 ?_
    rw [← ei8]
    refine v_istore (i := 7) (lv' := [(1, va_rf (some a2)), (2, va_rf r_2), (3, .int i_3), (4, .int i_4), (5, .int i_5), (6, .int i_6), (7, .int i8)]) dX1_lowers_36 (Nat.le_of_ble_eq_true rfl) rfl rfl ?_
    refine v_iload (i := 7) dX1_lowers_38 rfl ?_
    refine v_sipush (v := 10000) dX1_lowers_40 (by decide) ?_
    refine v_icmp_ge 94 dX1_lowers_43 (by decide) (fun c9 => ?_) (fun c9 => ?_)
    · replace hf := hf.1 c9
      refine v_iinc (i := 6) (v := i_6 + (1 : Int32)) (lv' := [(1, va_rf (some a2)), (2, va_rf r_2), (3, .int i_3), (4, .int i_4), (5, .int i_5), (6, .int (i_6 + (1 : Int32))), (7, .int i8)]) dX1_lowers_94 rfl rfl (Nat.le_of_ble_eq_true rfl) rfl rfl ?_
      refine v_goto 22 dX1_lowers_97 (by decide) ?_
      refine V.lp (lv' := [(1, va_rf (some a2)), (2, va_rf r_2), (3, .int i_3), (4, .int i_4), (5, .int i_5), (6, .int (i_6 + (1 : Int32)))]) [0, 1, 2, 3, 4, 5] rfl ?_
      exact V.weak hf (by omega) (by omega)
    · replace hf := hf.2 c9
      refine v_qload_n (r := r_2) (i := 2) dX1_lowers_46 rfl rfl ?_
      obtain ⟨a11, rfl⟩ := gI_s hf
      replace hf := gI_e hf
      obtain ⟨w12, fs13, i10, hh14, hk15, hf⟩ := hf
      refine v_getfN (T := TX5) (ci := 5) 4 dX1_lowers_47 q700 rfl in_X5 (Nat.le_of_ble_eq_true rfl) (Or.inl rfl) hh14 hk15 ?_
      refine v_if_ne 94 dX1_lowers_50 (by decide) (fun c16 => ?_) (fun c16 => ?_)
      · replace hf := hf.1 c16
        refine v_iinc (i := 6) (v := i_6 + (1 : Int32)) (lv' := [(1, va_rf (some a2)), (2, va_rf (some a11)), (3, .int i_3), (4, .int i_4), (5, .int i_5), (6, .int (i_6 + (1 : Int32))), (7, .int i8)]) dX1_lowers_94 rfl rfl (Nat.le_of_ble_eq_true rfl) rfl rfl ?_
        refine v_goto 22 dX1_lowers_97 (by decide) ?_
        refine V.lp (lv' := [(1, va_rf (some a2)), (2, va_rf (some a11)), (3, .int i_3), (4, .int i_4), (5, .int i_5), (6, .int (i_6 + (1 : Int32)))]) [0, 1, 2, 3, 4, 5] rfl ?_
        exact V.weak hf (by omega) (by omega)
      · replace hf := hf.2 c16
        refine v_qload_n (r := (some a11)) (i := 2) dX1_lowers_53 rfl rfl ?_
        refine v_iload (i := 6) dX1_lowers_54 rfl ?_
        refine v_iload (i := 5) dX1_lowers_56 rfl ?_
        refine v_iadd dX1_lowers_58 ?_
        replace hf := rv_e hf
        obtain ⟨w17, fs18, hh19, hf⟩ := hf
        refine V.addK0 ?_
        refine V.addN0 ?_
        refine v_callV (mc := 0) (ms := 0) 1 dX1_lowers_59 (m_X5_isFor hG hf) rfl hh19 rfl (lw_V q1583 q1584 q1585 q110 q1586) rfl (by decide +kernel) (by decide) rfl (cat_len (Nat.le_of_ble_eq_true rfl)) (kk_I fun i21 h20 hg => ?_) (fun _ _ _ hx => hx.elim)
        replace hf := hg
        clear hg
        refine v_if_eq 94 dX1_lowers_62 (by decide) (fun c22 => ?_) (fun c22 => ?_)
        · replace hf := hf.1 c22
          refine v_iinc (i := 6) (v := i_6 + (1 : Int32)) (lv' := [(1, va_rf (some a2)), (2, va_rf (some a11)), (3, .int i_3), (4, .int i_4), (5, .int i_5), (6, .int (i_6 + (1 : Int32))), (7, .int i8)]) dX1_lowers_94 rfl rfl (Nat.le_of_ble_eq_true rfl) rfl rfl ?_
          refine v_goto 22 dX1_lowers_97 (by decide) ?_
          refine V.lp (lv' := [(1, va_rf (some a2)), (2, va_rf (some a11)), (3, .int i_3), (4, .int i_4), (5, .int i_5), (6, .int (i_6 + (1 : Int32)))]) [0, 1, 2, 3, 4, 5] rfl ?_
          exact V.weak hf (by omega) (by omega)
        · replace hf := hf.2 c22
          refine v_iload (i := 4) dX1_lowers_65 rfl ?_
          refine v_qload_n (r := (some a2)) (i := 1) dX1_lowers_67 rfl rfl ?_
          refine v_iconst (v := 2) dX1_lowers_68 (by decide) ?_
          refine v_qload_n (r := (some a11)) (i := 2) dX1_lowers_69 rfl rfl ?_
          refine v_iload_n (i := 3) dX1_lowers_70 rfl rfl ?_
          replace hf := rv_e hf
          obtain ⟨w23, fs24, hh25, hf⟩ := hf
          refine V.addK0 ?_
          refine V.addN0 ?_
          refine v_callV (mc := 0) (ms := 0) 1 dX1_lowers_71 (m_X5_beyond hG hf) rfl hh25 rfl (lw_V q1697 q1596 q1597 q110 q1598) rfl (by decide +kernel) (by decide) rfl (cat_len (Nat.le_of_ble_eq_true rfl)) (kk_I fun i27 h26 hg => ?_) (fun _ _ _ hx => hx.elim)
          replace hf := hg
          clear hg
          refine v_imul dX1_lowers_74 ?_
          refine v_iload (i := 6) dX1_lowers_75 rfl ?_
          refine v_iload (i := 5) dX1_lowers_77 rfl ?_
          refine v_iadd dX1_lowers_79 ?_
          refine v_iconst (v := 2) dX1_lowers_80 (by decide) ?_
          refine v_irem dX1_lowers_81 (by decide) ?_
          refine v_iadd dX1_lowers_82 ?_
          refine v_iload (i := 7) dX1_lowers_83 rfl ?_
          refine v_iload (i := 5) dX1_lowers_85 rfl ?_
          refine v_iadd dX1_lowers_87 ?_
          refine V.addK0 ?_
          refine V.addN0 ?_
          refine v_callS (mc := 0) (ms := 0) 3 dX1_lowers_88 (m_X1_isLowered hG hf) rfl (lw_S q1779 q1780 q89 q1781) rfl (by decide +kernel) (by decide) rfl (cat_len (Nat.le_of_ble_eq_true rfl)) (kk_I fun i29 h28 hg => ?_) (fun _ _ _ hx => hx.elim)
          replace hf := hg
          clear hg
          refine v_ior dX1_lowers_91 ?_
          refine v_istore (i := 4) (lv' := [(1, va_rf (some a2)), (2, va_rf (some a11)), (3, .int i_3), (4, .int (i_4 ||| i29)), (5, .int i_5), (6, .int i_6), (7, .int i8)]) dX1_lowers_92 (Nat.le_of_ble_eq_true rfl) rfl rfl ?_
          refine v_iinc (i := 6) (v := i_6 + (1 : Int32)) (lv' := [(1, va_rf (some a2)), (2, va_rf (some a11)), (3, .int i_3), (4, .int (i_4 ||| i29)), (5, .int i_5), (6, .int (i_6 + (1 : Int32))), (7, .int i8)]) dX1_lowers_94 rfl rfl (Nat.le_of_ble_eq_true rfl) rfl rfl ?_
          refine v_goto 22 dX1_lowers_97 (by decide) ?_
          refine V.lp (lv' := [(1, va_rf (some a2)), (2, va_rf (some a11)), (3, .int i_3), (4, .int (i_4 ||| i29)), (5, .int i_5), (6, .int (i_6 + (1 : Int32)))]) [0, 1, 2, 3, 4, 5] rfl ?_
          exact V.weak hf (by omega) (by omega)
theorem b_X1_lowers {G : Gt} {h : Hp} {mc ms : Nat} {a0 : Nat} {r_1 : Option Nat} {r_2 : Option Nat} {i_3 : Int32} {K : Int32 → Hp → Prop} (hG : Base G) (hf : ∀ E : Ev, V G E Y_X1_lowers cX1_lowers 8 (QM G E (kI K) xN) h mc ms 0 [(0, .ref a0), (1, va_rf r_1), (2, va_rf r_2), (3, .int i_3)] []) : MM G Y_X1_lowers cX1_lowers 8 mc ms [.ref a0, va_rf r_1, va_rf r_2, .int i_3] h (kI K) xN := mm_of hG (by decide +kernel) rfl (ac_c rfl (ac_c (rf_cat _) (ac_c (rf_cat _) (ac_c rfl ac_nil)))) (Nat.le_of_ble_eq_true rfl) (fun E _ _ => hf E)
abbrev Y_X1_comesBack : Yt := (yX1_comesBack, some (.boolean), 4, 104, [])
def g_X1_comesBack_0 (G : Gt) (E : Ev) (h : Hp) (k n : Nat) (a0 : Nat) (r_1 : Option Nat) (r_2 : Option Nat) (i_3 : Int32) (K : Int32 → Hp → Prop) : Prop :=
gR h (some a0) 1 0 fun r1 =>
rv h r1 10 (f_J2_get G h r1 i_3 (fun r11 h10 =>
(oc h10 r11 3 ∧ rv h10 r11 3 (f_X3_steps G h10 r11 (fun i17 h16 =>
V G E Y_X1_comesBack cX1_comesBack 8 (QM G E (kI K) xN) h16 k n 22 [(1, va_rf r_1), (2, va_rf r_2), (3, .int i_3), (4, .int (0 : Int32)), (5, .int i17), (6, .int (0 : Int32))] [])))))
theorem s_X1_comesBack_0 {G : Gt} {E : Ev} {h : Hp} {k0 n0 : Nat} {a0 : Nat} {r_1 : Option Nat} {r_2 : Option Nat} {i_3 : Int32} {K : Int32 → Hp → Prop} (hG : Base G) (hA : 0 ≤ k0) (hB : 0 ≤ n0) (hf : g_X1_comesBack_0 G E h (k0 - 0) (n0 - 0) a0 r_1 r_2 i_3 K) : V G E Y_X1_comesBack cX1_comesBack 8 (QM G E (kI K) xN) h k0 n0 0 [(0, .ref a0), (1, va_rf r_1), (2, va_rf r_2), (3, .int i_3)] [] := by
  obtain ⟨k, hk9⟩ : ∃ z, z = k0 - 0 := ⟨_, rfl⟩
  obtain ⟨n, hn9⟩ : ∃ z, z = n0 - 0 := ⟨_, rfl⟩
  rw [← hk9, ← hn9] at hf
  refine V.weak (k' := k + 0) (n' := n + 0) ?_ (by omega) (by omega)
  unfold g_X1_comesBack_0 at hf
  refine v_iconst (v := 0) dX1_comesBack_0 (by decide) ?_
  refine v_istore (i := 4) (lv' := [(0, .ref a0), (1, va_rf r_1), (2, va_rf r_2), (3, .int i_3), (4, .int (0 : Int32))]) dX1_comesBack_1 (Nat.le_of_ble_eq_true rfl) rfl rfl ?_
  refine v_aload_n (i := 0) dX1_comesBack_3 rfl rfl ?_
  replace hf := gR_e hf
  obtain ⟨w2, fs3, r1, hh4, hk5, hf⟩ := hf
  refine v_getf (T := TX1) (ci := 1) 0 dX1_comesBack_4 q188 rfl in_X1 (Nat.le_of_ble_eq_true rfl) (Or.inl rfl) hh4 hk5 ?_
  refine v_iload_n (i := 3) dX1_comesBack_7 rfl rfl ?_
  obtain ⟨a6, rfl⟩ := rv_s hf
  replace hf := rv_e hf
  obtain ⟨w7, fs8, hh9, hf⟩ := hf
  refine V.addK0 ?_
  refine V.addN0 ?_
  refine v_callV (mc := 0) (ms := 0) 1 dX1_comesBack_8 (m_J2_get hG hf) rfl hh9 rfl (lw_V q660 q661 q662 q92 q663) rfl (by decide +kernel) (by decide) rfl (cat_len (Nat.le_of_ble_eq_true rfl)) (kk_R fun r11 h10 hg => ?_) (fun _ _ _ hx => hx.elim)
  replace hf := hg
  clear hg
  obtain ⟨hoc, hf⟩ := hf
  refine v_castQS (r := r11) dX1_comesBack_11 q402 hoc rfl ?_
  obtain ⟨a12, rfl⟩ := rv_s hf
  replace hf := rv_e hf
  obtain ⟨w13, fs14, hh15, hf⟩ := hf
  refine V.addK0 ?_
  refine V.addN0 ?_
  refine v_callV (mc := 0) (ms := 0) 0 dX1_comesBack_14 (m_X3_steps hG hf) rfl hh15 rfl (lw_V q1575 q1576 q1577 q100 q1578) rfl (by decide +kernel) (by decide) rfl (cat_len (Nat.le_of_ble_eq_true rfl)) (kk_I fun i17 h16 hg => ?_) (fun _ _ _ hx => hx.elim)
  replace hf := hg
  clear hg
  refine v_istore (i := 5) (lv' := [(0, .ref a0), (1, va_rf r_1), (2, va_rf r_2), (3, .int i_3), (4, .int (0 : Int32)), (5, .int i17)]) dX1_comesBack_17 (Nat.le_of_ble_eq_true rfl) rfl rfl ?_
  refine v_iconst (v := 0) dX1_comesBack_19 (by decide) ?_
  refine v_istore (i := 6) (lv' := [(0, .ref a0), (1, va_rf r_1), (2, va_rf r_2), (3, .int i_3), (4, .int (0 : Int32)), (5, .int i17), (6, .int (0 : Int32))]) dX1_comesBack_20 (Nat.le_of_ble_eq_true rfl) rfl rfl ?_
  refine V.lp (lv' := [(1, va_rf r_1), (2, va_rf r_2), (3, .int i_3), (4, .int (0 : Int32)), (5, .int i17), (6, .int (0 : Int32))]) [1, 2, 3, 4, 5, 6] rfl ?_
  exact V.weak hf (by omega) (by omega)
def g_X1_comesBack_22 (G : Gt) (E : Ev) (h : Hp) (k n : Nat) (r_1 : Option Nat) (r_2 : Option Nat) (i_3 : Int32) (i_4 : Int32) (i_5 : Int32) (i_6 : Int32) (K : Int32 → Hp → Prop) : Prop :=
(((2 : Int32) ≤ i_6 → (narrow .boolean (.int i_4) = .int i_4 ∧ K i_4 h)) ∧
(¬ ((2 : Int32) ≤ i_6) → gI h r_2 5 4 fun i2 =>
((¬ (i2 = 0) → (narrow .boolean (.int i_4) = .int i_4 ∧ K i_4 h)) ∧
(i2 = 0 → rv h r_2 5 (f_X5_beyond G h r_2 i_3 (fun i13 h12 =>
aI h12 r_1 0 (((2 : Int32) * i13) + ((i_6 + i_5) - (i_6 + i_5) / (2 : Int32) * (2 : Int32))) fun i20 =>
(((10000 : Int32) ≤ i20 → V G E Y_X1_comesBack cX1_comesBack 8 (QM G E (kI K) xN) h12 k n 22 [(1, va_rf r_1), (2, va_rf r_2), (3, .int i_3), (4, .int (i_4 ||| (0 : Int32))), (5, .int i_5), (6, .int (i_6 + (1 : Int32)))] []) ∧
(¬ ((10000 : Int32) ≤ i20) → rv h12 r_2 5 (f_X5_isFor G h12 r_2 (i_6 + i_5) (fun i26 h25 =>
((i26 = 0 → V G E Y_X1_comesBack cX1_comesBack 8 (QM G E (kI K) xN) h25 k n 22 [(1, va_rf r_1), (2, va_rf r_2), (3, .int i_3), (4, .int (i_4 ||| (0 : Int32))), (5, .int i_5), (6, .int (i_6 + (1 : Int32)))] []) ∧
(¬ (i26 = 0) → f_X1_isLowered G h25 r_1 (((2 : Int32) * i_3) + i_6) (i20 + i_5) (fun i29 h28 =>
((i29 = 0 → V G E Y_X1_comesBack cX1_comesBack 8 (QM G E (kI K) xN) h28 k n 22 [(1, va_rf r_1), (2, va_rf r_2), (3, .int i_3), (4, .int (i_4 ||| (0 : Int32))), (5, .int i_5), (6, .int (i_6 + (1 : Int32)))] []) ∧
(¬ (i29 = 0) → V G E Y_X1_comesBack cX1_comesBack 8 (QM G E (kI K) xN) h28 k n 22 [(1, va_rf r_1), (2, va_rf r_2), (3, .int i_3), (4, .int (i_4 ||| (1 : Int32))), (5, .int i_5), (6, .int (i_6 + (1 : Int32)))] [])))))))))))))))
theorem s_X1_comesBack_22 {G : Gt} {E : Ev} {h : Hp} {k0 n0 : Nat} {r_1 : Option Nat} {r_2 : Option Nat} {i_3 : Int32} {i_4 : Int32} {i_5 : Int32} {i_6 : Int32} {K : Int32 → Hp → Prop} (hG : Base G) (hA : 0 ≤ k0) (hB : 0 ≤ n0) (hf : g_X1_comesBack_22 G E h (k0 - 0) (n0 - 0) r_1 r_2 i_3 i_4 i_5 i_6 K) : V G E Y_X1_comesBack cX1_comesBack 8 (QM G E (kI K) xN) h k0 n0 22 [(1, va_rf r_1), (2, va_rf r_2), (3, .int i_3), (4, .int i_4), (5, .int i_5), (6, .int i_6)] [] := by
  obtain ⟨k, hk9⟩ : ∃ z, z = k0 - 0 := ⟨_, rfl⟩
  obtain ⟨n, hn9⟩ : ∃ z, z = n0 - 0 := ⟨_, rfl⟩
  rw [← hk9, ← hn9] at hf
  refine V.weak (k' := k + 0) (n' := n + 0) ?_ (by omega) (by omega)
  unfold g_X1_comesBack_22 at hf
  refine v_iload (i := 6) dX1_comesBack_22 rfl ?_
  refine v_iconst (v := 2) dX1_comesBack_24 (by decide) ?_
  refine v_icmp_ge 108 dX1_comesBack_25 (by decide) (fun c1 => ?_) (fun c1 => ?_)
  · replace hf := hf.1 c1
    refine v_iload (i := 4) dX1_comesBack_108 rfl ?_
    exact v_zret dX1_comesBack_110 rfl hf.1 ⟨_, rfl, hf.2⟩
  · replace hf := hf.2 c1
    refine v_qload_n (r := r_2) (i := 2) dX1_comesBack_28 rfl rfl ?_
    obtain ⟨a3, rfl⟩ := gI_s hf
    replace hf := gI_e hf
    obtain ⟨w4, fs5, i2, hh6, hk7, hf⟩ := hf
    refine v_getfN (T := TX5) (ci := 5) 4 dX1_comesBack_29 q700 rfl in_X5 (Nat.le_of_ble_eq_true rfl) (Or.inl rfl) hh6 hk7 ?_
    refine v_if_ne 108 dX1_comesBack_32 (by decide) (fun c8 => ?_) (fun c8 => ?_)
    · replace hf := hf.1 c8
      refine v_iload (i := 4) dX1_comesBack_108 rfl ?_
      exact v_zret dX1_comesBack_110 rfl hf.1 ⟨_, rfl, hf.2⟩
    · replace hf := hf.2 c8
      refine v_qload_n (r := r_1) (i := 1) dX1_comesBack_35 rfl rfl ?_
      refine v_iconst (v := 2) dX1_comesBack_36 (by decide) ?_
      refine v_qload_n (r := (some a3)) (i := 2) dX1_comesBack_37 rfl rfl ?_
      refine v_iload_n (i := 3) dX1_comesBack_38 rfl rfl ?_
      replace hf := rv_e hf
      obtain ⟨w9, fs10, hh11, hf⟩ := hf
      refine V.addK0 ?_
      refine V.addN0 ?_
      refine v_callV (mc := 0) (ms := 0) 1 dX1_comesBack_39 (m_X5_beyond hG hf) rfl hh11 rfl (lw_V q1697 q1596 q1597 q110 q1598) rfl (by decide +kernel) (by decide) rfl (cat_len (Nat.le_of_ble_eq_true rfl)) (kk_I fun i13 h12 hg => ?_) (fun _ _ _ hx => hx.elim)
      replace hf := hg
      clear hg
      refine v_imul dX1_comesBack_42 ?_
      refine v_iload (i := 6) dX1_comesBack_43 rfl ?_
      refine v_iload (i := 5) dX1_comesBack_45 rfl ?_
      refine v_iadd dX1_comesBack_47 ?_
      refine v_iconst (v := 2) dX1_comesBack_48 (by decide) ?_
      refine v_irem dX1_comesBack_49 (by decide) ?_
      refine v_iadd dX1_comesBack_50 ?_
      obtain ⟨a14, rfl⟩ := aI_s hf
      replace hf := aI_e hf
      obtain ⟨w15, N16, f17, hh18, hi19, i20, ei20, hf⟩ := hf
      refine v_iald dX1_comesBack_51 hh18 hi19 ?_
      rw [← ei20]
      refine v_istore (i := 7) (lv' := [(1, va_rf (some a14)), (2, va_rf (some a3)), (3, .int i_3), (4, .int i_4), (5, .int i_5), (6, .int i_6), (7, .int i20)]) dX1_comesBack_52 (Nat.le_of_ble_eq_true rfl) rfl rfl ?_
      refine v_iload (i := 4) dX1_comesBack_54 rfl ?_
      refine v_iload (i := 7) dX1_comesBack_56 rfl ?_
      refine v_sipush (v := 10000) dX1_comesBack_58 (by decide) ?_
      refine v_icmp_ge 98 dX1_comesBack_61 (by decide) (fun c21 => ?_) (fun c21 => ?_)
      · replace hf := hf.1 c21
        refine v_iconst (v := 0) dX1_comesBack_98 (by decide) ?_
        refine v_ior dX1_comesBack_99 ?_
        refine v_istore (i := 4) (lv' := [(1, va_rf (some a14)), (2, va_rf (some a3)), (3, .int i_3), (4, .int (i_4 ||| (0 : Int32))), (5, .int i_5), (6, .int i_6), (7, .int i20)]) dX1_comesBack_100 (Nat.le_of_ble_eq_true rfl) rfl rfl ?_
        refine v_iinc (i := 6) (v := i_6 + (1 : Int32)) (lv' := [(1, va_rf (some a14)), (2, va_rf (some a3)), (3, .int i_3), (4, .int (i_4 ||| (0 : Int32))), (5, .int i_5), (6, .int (i_6 + (1 : Int32))), (7, .int i20)]) dX1_comesBack_102 rfl rfl (Nat.le_of_ble_eq_true rfl) rfl rfl ?_
        refine v_goto 22 dX1_comesBack_105 (by decide) ?_
        refine V.lp (lv' := [(1, va_rf (some a14)), (2, va_rf (some a3)), (3, .int i_3), (4, .int (i_4 ||| (0 : Int32))), (5, .int i_5), (6, .int (i_6 + (1 : Int32)))]) [0, 1, 2, 3, 4, 5] rfl ?_
        exact V.weak hf (by omega) (by omega)
      · replace hf := hf.2 c21
        refine v_qload_n (r := (some a3)) (i := 2) dX1_comesBack_64 rfl rfl ?_
        refine v_iload (i := 6) dX1_comesBack_65 rfl ?_
        refine v_iload (i := 5) dX1_comesBack_67 rfl ?_
        refine v_iadd dX1_comesBack_69 ?_
        replace hf := rv_e hf
        obtain ⟨w22, fs23, hh24, hf⟩ := hf
        refine V.addK0 ?_
        refine V.addN0 ?_
        refine v_callV (mc := 0) (ms := 0) 1 dX1_comesBack_70 (m_X5_isFor hG hf) rfl hh24 rfl (lw_V q1583 q1584 q1585 q110 q1586) rfl (by decide +kernel) (by decide) rfl (cat_len (Nat.le_of_ble_eq_true rfl)) (kk_I fun i26 h25 hg => ?_) (fun _ _ _ hx => hx.elim)
        replace hf := hg
        clear hg
        refine v_if_eq 98 dX1_comesBack_73 (by decide) (fun c27 => ?_) (fun c27 => ?_)
        · replace hf := hf.1 c27
          refine v_iconst (v := 0) dX1_comesBack_98 (by decide) ?_
          refine v_ior dX1_comesBack_99 ?_
          refine v_istore (i := 4) (lv' := [(1, va_rf (some a14)), (2, va_rf (some a3)), (3, .int i_3), (4, .int (i_4 ||| (0 : Int32))), (5, .int i_5), (6, .int i_6), (7, .int i20)]) dX1_comesBack_100 (Nat.le_of_ble_eq_true rfl) rfl rfl ?_
          refine v_iinc (i := 6) (v := i_6 + (1 : Int32)) (lv' := [(1, va_rf (some a14)), (2, va_rf (some a3)), (3, .int i_3), (4, .int (i_4 ||| (0 : Int32))), (5, .int i_5), (6, .int (i_6 + (1 : Int32))), (7, .int i20)]) dX1_comesBack_102 rfl rfl (Nat.le_of_ble_eq_true rfl) rfl rfl ?_
          refine v_goto 22 dX1_comesBack_105 (by decide) ?_
          refine V.lp (lv' := [(1, va_rf (some a14)), (2, va_rf (some a3)), (3, .int i_3), (4, .int (i_4 ||| (0 : Int32))), (5, .int i_5), (6, .int (i_6 + (1 : Int32)))]) [0, 1, 2, 3, 4, 5] rfl ?_
          exact V.weak hf (by omega) (by omega)
        · replace hf := hf.2 c27
          refine v_qload_n (r := (some a14)) (i := 1) dX1_comesBack_76 rfl rfl ?_
          refine v_iconst (v := 2) dX1_comesBack_77 (by decide) ?_
          refine v_iload_n (i := 3) dX1_comesBack_78 rfl rfl ?_
          refine v_imul dX1_comesBack_79 ?_
          refine v_iload (i := 6) dX1_comesBack_80 rfl ?_
          refine v_iadd dX1_comesBack_82 ?_
          refine v_iload (i := 7) dX1_comesBack_83 rfl ?_
          refine v_iload (i := 5) dX1_comesBack_85 rfl ?_
          refine v_iadd dX1_comesBack_87 ?_
          refine V.addK0 ?_
          refine V.addN0 ?_
          refine v_callS (mc := 0) (ms := 0) 3 dX1_comesBack_88 (m_X1_isLowered hG hf) rfl (lw_S q1779 q1780 q89 q1781) rfl (by decide +kernel) (by decide) rfl (cat_len (Nat.le_of_ble_eq_true rfl)) (kk_I fun i29 h28 hg => ?_) (fun _ _ _ hx => hx.elim)
          replace hf := hg
          clear hg
          refine v_if_eq 98 dX1_comesBack_91 (by decide) (fun c30 => ?_) (fun c30 => ?_)
          · replace hf := hf.1 c30
            refine v_iconst (v := 0) dX1_comesBack_98 (by decide) ?_
            refine v_ior dX1_comesBack_99 ?_
            refine v_istore (i := 4) (lv' := [(1, va_rf (some a14)), (2, va_rf (some a3)), (3, .int i_3), (4, .int (i_4 ||| (0 : Int32))), (5, .int i_5), (6, .int i_6), (7, .int i20)]) dX1_comesBack_100 (Nat.le_of_ble_eq_true rfl) rfl rfl ?_
            refine v_iinc (i := 6) (v := i_6 + (1 : Int32)) (lv' := [(1, va_rf (some a14)), (2, va_rf (some a3)), (3, .int i_3), (4, .int (i_4 ||| (0 : Int32))), (5, .int i_5), (6, .int (i_6 + (1 : Int32))), (7, .int i20)]) dX1_comesBack_102 rfl rfl (Nat.le_of_ble_eq_true rfl) rfl rfl ?_
            refine v_goto 22 dX1_comesBack_105 (by decide) ?_
            refine V.lp (lv' := [(1, va_rf (some a14)), (2, va_rf (some a3)), (3, .int i_3), (4, .int (i_4 ||| (0 : Int32))), (5, .int i_5), (6, .int (i_6 + (1 : Int32)))]) [0, 1, 2, 3, 4, 5] rfl ?_
            exact V.weak hf (by omega) (by omega)
          · replace hf := hf.2 c30
            refine v_iconst (v := 1) dX1_comesBack_94 (by decide) ?_
            refine v_goto 99 dX1_comesBack_95 (by decide) ?_
            refine v_ior dX1_comesBack_99 ?_
            refine v_istore (i := 4) (lv' := [(1, va_rf (some a14)), (2, va_rf (some a3)), (3, .int i_3), (4, .int (i_4 ||| (1 : Int32))), (5, .int i_5), (6, .int i_6), (7, .int i20)]) dX1_comesBack_100 (Nat.le_of_ble_eq_true rfl) rfl rfl ?_
            refine v_iinc (i := 6) (v := i_6 + (1 : Int32)) (lv' := [(1, va_rf (some a14)), (2, va_rf (some a3)), (3, .int i_3), (4, .int (i_4 ||| (1 : Int32))), (5, .int i_5), (6, .int (i_6 + (1 : Int32))), (7, .int i20)]) dX1_comesBack_102 rfl rfl (Nat.le_of_ble_eq_true rfl) rfl rfl ?_
            refine v_goto 22 dX1_comesBack_105 (by decide) ?_
            refine V.lp (lv' := [(1, va_rf (some a14)), (2, va_rf (some a3)), (3, .int i_3), (4, .int (i_4 ||| (1 : Int32))), (5, .int i_5), (6, .int (i_6 + (1 : Int32)))]) [0, 1, 2, 3, 4, 5] rfl ?_
            exact V.weak hf (by omega) (by omega)
theorem b_X1_comesBack {G : Gt} {h : Hp} {mc ms : Nat} {a0 : Nat} {r_1 : Option Nat} {r_2 : Option Nat} {i_3 : Int32} {K : Int32 → Hp → Prop} (hG : Base G) (hf : ∀ E : Ev, V G E Y_X1_comesBack cX1_comesBack 8 (QM G E (kI K) xN) h mc ms 0 [(0, .ref a0), (1, va_rf r_1), (2, va_rf r_2), (3, .int i_3)] []) : MM G Y_X1_comesBack cX1_comesBack 8 mc ms [.ref a0, va_rf r_1, va_rf r_2, .int i_3] h (kI K) xN := mm_of hG (by decide +kernel) rfl (ac_c rfl (ac_c (rf_cat _) (ac_c (rf_cat _) (ac_c rfl ac_nil)))) (Nat.le_of_ble_eq_true rfl) (fun E _ _ => hf E)
abbrev Y_X1_lit : Yt := (yX1_lit, some (.int), 3, 82, [])
def g_X1_lit_0 (G : Gt) (E : Ev) (h : Hp) (k n : Nat) (a0 : Nat) (K : Int32 → Hp → Prop) : Prop :=
gR h (some a0) 1 0 fun r1 =>
rv h r1 10 (f_J2_iterator G h r1 (fun r11 h10 =>
V G E Y_X1_lit cX1_lit 4 (QM G E (kI K) xN) h10 k n 10 [(1, .int (0 : Int32)), (2, va_rf r11)] []))
theorem s_X1_lit_0 {G : Gt} {E : Ev} {h : Hp} {k0 n0 : Nat} {a0 : Nat} {K : Int32 → Hp → Prop} (hG : Base G) (hA : 1 ≤ k0) (hB : 4 ≤ n0) (hf : g_X1_lit_0 G E h (k0 - 1) (n0 - 4) a0 K) : V G E Y_X1_lit cX1_lit 4 (QM G E (kI K) xN) h k0 n0 0 [(0, .ref a0)] [] := by
  obtain ⟨k, hk9⟩ : ∃ z, z = k0 - 1 := ⟨_, rfl⟩
  obtain ⟨n, hn9⟩ : ∃ z, z = n0 - 4 := ⟨_, rfl⟩
  rw [← hk9, ← hn9] at hf
  refine V.weak (k' := k + 1) (n' := n + 4) ?_ (by omega) (by omega)
  unfold g_X1_lit_0 at hf
  refine v_iconst (v := 0) dX1_lit_0 (by decide) ?_
  refine v_istore_n (i := 1) (lv' := [(0, .ref a0), (1, .int (0 : Int32))]) dX1_lit_1 rfl (Nat.le_of_ble_eq_true rfl) rfl rfl ?_
  refine v_aload_n (i := 0) dX1_lit_2 rfl rfl ?_
  replace hf := gR_e hf
  obtain ⟨w2, fs3, r1, hh4, hk5, hf⟩ := hf
  refine v_getf (T := TX1) (ci := 1) 0 dX1_lit_3 q188 rfl in_X1 (Nat.le_of_ble_eq_true rfl) (Or.inl rfl) hh4 hk5 ?_
  obtain ⟨a6, rfl⟩ := rv_s hf
  replace hf := rv_e hf
  obtain ⟨w7, fs8, hh9, hf⟩ := hf
  refine v_callV (mc := 1) (ms := 4) 0 dX1_lit_6 (m_J2_iterator hG hf) rfl hh9 rfl (lw_V q315 q316 q317 q92 q318) rfl (by decide +kernel) (by decide) rfl (cat_len (Nat.le_of_ble_eq_true rfl)) (kk_R fun r11 h10 hg => ?_) (fun _ _ _ hx => hx.elim)
  replace hf := hg
  clear hg
  refine v_qstore_n (i := 2) (r := r11) (lv' := [(0, .ref a0), (1, .int (0 : Int32)), (2, va_rf r11)]) dX1_lit_9 rfl (Nat.le_of_ble_eq_true rfl) rfl rfl ?_
  refine V.lp (lv' := [(1, .int (0 : Int32)), (2, va_rf r11)]) [1, 2] rfl ?_
  exact V.weak hf (by omega) (by omega)
def g_X1_lit_10 (G : Gt) (E : Ev) (h : Hp) (k n : Nat) (i_1 : Int32) (r_2 : Option Nat) (K : Int32 → Hp → Prop) : Prop :=
rv h r_2 11 (f_J8_hasNext G h r_2 (fun i6 h5 =>
((i6 = 0 → K i_1 h5) ∧
(¬ (i6 = 0) → rv h5 r_2 11 (f_J8_next G h5 r_2 (fun r12 h11 =>
(oc h11 r12 3 ∧ rv h11 r12 3 (f_X3_isLit G h11 r12 (fun i18 h17 =>
((i18 = 0 → V G E Y_X1_lit cX1_lit 4 (QM G E (kI K) xN) h17 k n 10 [(1, .int (i_1 + (0 : Int32))), (2, va_rf r_2)] []) ∧
(¬ (i18 = 0) → V G E Y_X1_lit cX1_lit 4 (QM G E (kI K) xN) h17 k n 10 [(1, .int (i_1 + (1 : Int32))), (2, va_rf r_2)] [])))))))))))
theorem s_X1_lit_10 {G : Gt} {E : Ev} {h : Hp} {k0 n0 : Nat} {i_1 : Int32} {r_2 : Option Nat} {K : Int32 → Hp → Prop} (hG : Base G) (hA : 0 ≤ k0) (hB : 0 ≤ n0) (hf : g_X1_lit_10 G E h (k0 - 0) (n0 - 0) i_1 r_2 K) : V G E Y_X1_lit cX1_lit 4 (QM G E (kI K) xN) h k0 n0 10 [(1, .int i_1), (2, va_rf r_2)] [] := by
  obtain ⟨k, hk9⟩ : ∃ z, z = k0 - 0 := ⟨_, rfl⟩
  obtain ⟨n, hn9⟩ : ∃ z, z = n0 - 0 := ⟨_, rfl⟩
  rw [← hk9, ← hn9] at hf
  refine V.weak (k' := k + 0) (n' := n + 0) ?_ (by omega) (by omega)
  unfold g_X1_lit_10 at hf
  refine v_qload_n (r := r_2) (i := 2) dX1_lit_10 rfl rfl ?_
  obtain ⟨a1, rfl⟩ := rv_s hf
  replace hf := rv_e hf
  obtain ⟨w2, fs3, hh4, hf⟩ := hf
  refine V.addK0 ?_
  refine V.addN0 ?_
  refine v_callF (mc := 0) (ms := 0) 0 dX1_lit_11 (m_J8_hasNext hG hf) rfl hh4 rfl (lw_F q339 q343 q345 q99 q347) (fun C9 => v_Fw C9 (by decide) q341 q340 q346 q344 q342) rfl (by decide +kernel) (by decide) rfl (cat_len (Nat.le_of_ble_eq_true rfl)) (kk_I fun i6 h5 hg => ?_) (fun _ _ _ hx => hx.elim)
  replace hf := hg
  clear hg
  refine v_if_eq 47 dX1_lit_16 (by decide) (fun c7 => ?_) (fun c7 => ?_)
  · replace hf := hf.1 c7
    refine v_iload_n (i := 1) dX1_lit_47 rfl rfl ?_
    exact v_iret dX1_lit_48 rfl ⟨_, rfl, hf⟩
  · replace hf := hf.2 c7
    refine v_qload_n (r := (some a1)) (i := 2) dX1_lit_19 rfl rfl ?_
    replace hf := rv_e hf
    obtain ⟨w8, fs9, hh10, hf⟩ := hf
    refine V.addK0 ?_
    refine V.addN0 ?_
    refine v_callF (mc := 0) (ms := 0) 0 dX1_lit_20 (m_J8_next hG hf) rfl hh10 rfl (lw_F q361 q364 q366 q99 q368) (fun C9 => v_Fw C9 (by decide) q363 q362 q367 q365 q342) rfl (by decide +kernel) (by decide) rfl (cat_len (Nat.le_of_ble_eq_true rfl)) (kk_R fun r12 h11 hg => ?_) (fun _ _ _ hx => hx.elim)
    replace hf := hg
    clear hg
    obtain ⟨hoc, hf⟩ := hf
    refine v_castQS (r := r12) dX1_lit_25 q402 hoc rfl ?_
    refine v_qstore_n (i := 3) (r := r12) (lv' := [(1, .int i_1), (2, va_rf (some a1)), (3, va_rf r12)]) dX1_lit_28 rfl (Nat.le_of_ble_eq_true rfl) rfl rfl ?_
    refine v_iload_n (i := 1) dX1_lit_29 rfl rfl ?_
    refine v_qload_n (r := r12) (i := 3) dX1_lit_30 rfl rfl ?_
    obtain ⟨a13, rfl⟩ := rv_s hf
    replace hf := rv_e hf
    obtain ⟨w14, fs15, hh16, hf⟩ := hf
    refine V.addK0 ?_
    refine V.addN0 ?_
    refine v_callV (mc := 0) (ms := 0) 0 dX1_lit_31 (m_X3_isLit hG hf) rfl hh16 rfl (lw_V q1647 q1580 q1581 q100 q1582) rfl (by decide +kernel) (by decide) rfl (cat_len (Nat.le_of_ble_eq_true rfl)) (kk_I fun i18 h17 hg => ?_) (fun _ _ _ hx => hx.elim)
    replace hf := hg
    clear hg
    refine v_if_eq 41 dX1_lit_34 (by decide) (fun c19 => ?_) (fun c19 => ?_)
    · replace hf := hf.1 c19
      refine v_iconst (v := 0) dX1_lit_41 (by decide) ?_
      refine v_iadd dX1_lit_42 ?_
      refine v_istore_n (i := 1) (lv' := [(1, .int (i_1 + (0 : Int32))), (2, va_rf (some a1)), (3, va_rf (some a13))]) dX1_lit_43 rfl (Nat.le_of_ble_eq_true rfl) rfl rfl ?_
      refine v_goto 10 dX1_lit_44 (by decide) ?_
      refine V.lp (lv' := [(1, .int (i_1 + (0 : Int32))), (2, va_rf (some a1))]) [0, 1] rfl ?_
      exact V.weak hf (by omega) (by omega)
    · replace hf := hf.2 c19
      refine v_iconst (v := 1) dX1_lit_37 (by decide) ?_
      refine v_goto 42 dX1_lit_38 (by decide) ?_
      refine v_iadd dX1_lit_42 ?_
      refine v_istore_n (i := 1) (lv' := [(1, .int (i_1 + (1 : Int32))), (2, va_rf (some a1)), (3, va_rf (some a13))]) dX1_lit_43 rfl (Nat.le_of_ble_eq_true rfl) rfl rfl ?_
      refine v_goto 10 dX1_lit_44 (by decide) ?_
      refine V.lp (lv' := [(1, .int (i_1 + (1 : Int32))), (2, va_rf (some a1))]) [0, 1] rfl ?_
      exact V.weak hf (by omega) (by omega)
theorem b_X1_lit {G : Gt} {h : Hp} {mc ms : Nat} {a0 : Nat} {K : Int32 → Hp → Prop} (hG : Base G) (hf : ∀ E : Ev, V G E Y_X1_lit cX1_lit 4 (QM G E (kI K) xN) h mc ms 0 [(0, .ref a0)] []) : MM G Y_X1_lit cX1_lit 4 mc ms [.ref a0] h (kI K) xN := mm_of hG (by decide +kernel) rfl (ac_c rfl ac_nil) (Nat.le_of_ble_eq_true rfl) (fun E _ _ => hf E)
abbrev Y_X1_shut : Yt := (yX1_shut, some (.int), 3, 82, [])
def g_X1_shut_0 (G : Gt) (E : Ev) (h : Hp) (k n : Nat) (a0 : Nat) (K : Int32 → Hp → Prop) : Prop :=
gR h (some a0) 1 1 fun r1 =>
rv h r1 10 (f_J2_iterator G h r1 (fun r11 h10 =>
V G E Y_X1_shut cX1_shut 4 (QM G E (kI K) xN) h10 k n 10 [(1, .int (0 : Int32)), (2, va_rf r11)] []))
theorem s_X1_shut_0 {G : Gt} {E : Ev} {h : Hp} {k0 n0 : Nat} {a0 : Nat} {K : Int32 → Hp → Prop} (hG : Base G) (hA : 1 ≤ k0) (hB : 4 ≤ n0) (hf : g_X1_shut_0 G E h (k0 - 1) (n0 - 4) a0 K) : V G E Y_X1_shut cX1_shut 4 (QM G E (kI K) xN) h k0 n0 0 [(0, .ref a0)] [] := by
  obtain ⟨k, hk9⟩ : ∃ z, z = k0 - 1 := ⟨_, rfl⟩
  obtain ⟨n, hn9⟩ : ∃ z, z = n0 - 4 := ⟨_, rfl⟩
  rw [← hk9, ← hn9] at hf
  refine V.weak (k' := k + 1) (n' := n + 4) ?_ (by omega) (by omega)
  unfold g_X1_shut_0 at hf
  refine v_iconst (v := 0) dX1_shut_0 (by decide) ?_
  refine v_istore_n (i := 1) (lv' := [(0, .ref a0), (1, .int (0 : Int32))]) dX1_shut_1 rfl (Nat.le_of_ble_eq_true rfl) rfl rfl ?_
  refine v_aload_n (i := 0) dX1_shut_2 rfl rfl ?_
  replace hf := gR_e hf
  obtain ⟨w2, fs3, r1, hh4, hk5, hf⟩ := hf
  refine v_getf (T := TX1) (ci := 1) 1 dX1_shut_3 q190 rfl in_X1 (Nat.le_of_ble_eq_true rfl) (Or.inl rfl) hh4 hk5 ?_
  obtain ⟨a6, rfl⟩ := rv_s hf
  replace hf := rv_e hf
  obtain ⟨w7, fs8, hh9, hf⟩ := hf
  refine v_callV (mc := 1) (ms := 4) 0 dX1_shut_6 (m_J2_iterator hG hf) rfl hh9 rfl (lw_V q315 q316 q317 q92 q318) rfl (by decide +kernel) (by decide) rfl (cat_len (Nat.le_of_ble_eq_true rfl)) (kk_R fun r11 h10 hg => ?_) (fun _ _ _ hx => hx.elim)
  replace hf := hg
  clear hg
  refine v_qstore_n (i := 2) (r := r11) (lv' := [(0, .ref a0), (1, .int (0 : Int32)), (2, va_rf r11)]) dX1_shut_9 rfl (Nat.le_of_ble_eq_true rfl) rfl rfl ?_
  refine V.lp (lv' := [(1, .int (0 : Int32)), (2, va_rf r11)]) [1, 2] rfl ?_
  exact V.weak hf (by omega) (by omega)
def g_X1_shut_10 (G : Gt) (E : Ev) (h : Hp) (k n : Nat) (i_1 : Int32) (r_2 : Option Nat) (K : Int32 → Hp → Prop) : Prop :=
rv h r_2 11 (f_J8_hasNext G h r_2 (fun i6 h5 =>
((i6 = 0 → K i_1 h5) ∧
(¬ (i6 = 0) → rv h5 r_2 11 (f_J8_next G h5 r_2 (fun r12 h11 =>
(oc h11 r12 5 ∧ gI h11 r12 5 4 fun i13 =>
((i13 = 0 → V G E Y_X1_shut cX1_shut 4 (QM G E (kI K) xN) h11 k n 10 [(1, .int (i_1 + (0 : Int32))), (2, va_rf r_2)] []) ∧
(¬ (i13 = 0) → V G E Y_X1_shut cX1_shut 4 (QM G E (kI K) xN) h11 k n 10 [(1, .int (i_1 + (1 : Int32))), (2, va_rf r_2)] [])))))))))
theorem s_X1_shut_10 {G : Gt} {E : Ev} {h : Hp} {k0 n0 : Nat} {i_1 : Int32} {r_2 : Option Nat} {K : Int32 → Hp → Prop} (hG : Base G) (hA : 0 ≤ k0) (hB : 0 ≤ n0) (hf : g_X1_shut_10 G E h (k0 - 0) (n0 - 0) i_1 r_2 K) : V G E Y_X1_shut cX1_shut 4 (QM G E (kI K) xN) h k0 n0 10 [(1, .int i_1), (2, va_rf r_2)] [] := by
  obtain ⟨k, hk9⟩ : ∃ z, z = k0 - 0 := ⟨_, rfl⟩
  obtain ⟨n, hn9⟩ : ∃ z, z = n0 - 0 := ⟨_, rfl⟩
  rw [← hk9, ← hn9] at hf
  refine V.weak (k' := k + 0) (n' := n + 0) ?_ (by omega) (by omega)
  unfold g_X1_shut_10 at hf
  refine v_qload_n (r := r_2) (i := 2) dX1_shut_10 rfl rfl ?_
  obtain ⟨a1, rfl⟩ := rv_s hf
  replace hf := rv_e hf
  obtain ⟨w2, fs3, hh4, hf⟩ := hf
  refine V.addK0 ?_
  refine V.addN0 ?_
  refine v_callF (mc := 0) (ms := 0) 0 dX1_shut_11 (m_J8_hasNext hG hf) rfl hh4 rfl (lw_F q339 q343 q345 q99 q347) (fun C9 => v_Fw C9 (by decide) q341 q340 q346 q344 q342) rfl (by decide +kernel) (by decide) rfl (cat_len (Nat.le_of_ble_eq_true rfl)) (kk_I fun i6 h5 hg => ?_) (fun _ _ _ hx => hx.elim)
  replace hf := hg
  clear hg
  refine v_if_eq 47 dX1_shut_16 (by decide) (fun c7 => ?_) (fun c7 => ?_)
  · replace hf := hf.1 c7
    refine v_iload_n (i := 1) dX1_shut_47 rfl rfl ?_
    exact v_iret dX1_shut_48 rfl ⟨_, rfl, hf⟩
  · replace hf := hf.2 c7
    refine v_qload_n (r := (some a1)) (i := 2) dX1_shut_19 rfl rfl ?_
    replace hf := rv_e hf
    obtain ⟨w8, fs9, hh10, hf⟩ := hf
    refine V.addK0 ?_
    refine V.addN0 ?_
    refine v_callF (mc := 0) (ms := 0) 0 dX1_shut_20 (m_J8_next hG hf) rfl hh10 rfl (lw_F q361 q364 q366 q99 q368) (fun C9 => v_Fw C9 (by decide) q363 q362 q367 q365 q342) rfl (by decide +kernel) (by decide) rfl (cat_len (Nat.le_of_ble_eq_true rfl)) (kk_R fun r12 h11 hg => ?_) (fun _ _ _ hx => hx.elim)
    replace hf := hg
    clear hg
    obtain ⟨hoc, hf⟩ := hf
    refine v_castQS (r := r12) dX1_shut_25 q499 hoc rfl ?_
    refine v_qstore_n (i := 3) (r := r12) (lv' := [(1, .int i_1), (2, va_rf (some a1)), (3, va_rf r12)]) dX1_shut_28 rfl (Nat.le_of_ble_eq_true rfl) rfl rfl ?_
    refine v_iload_n (i := 1) dX1_shut_29 rfl rfl ?_
    refine v_qload_n (r := r12) (i := 3) dX1_shut_30 rfl rfl ?_
    obtain ⟨a14, rfl⟩ := gI_s hf
    replace hf := gI_e hf
    obtain ⟨w15, fs16, i13, hh17, hk18, hf⟩ := hf
    refine v_getfN (T := TX5) (ci := 5) 4 dX1_shut_31 q700 rfl in_X5 (Nat.le_of_ble_eq_true rfl) (Or.inl rfl) hh17 hk18 ?_
    refine v_if_eq 41 dX1_shut_34 (by decide) (fun c19 => ?_) (fun c19 => ?_)
    · replace hf := hf.1 c19
      refine v_iconst (v := 0) dX1_shut_41 (by decide) ?_
      refine v_iadd dX1_shut_42 ?_
      refine v_istore_n (i := 1) (lv' := [(1, .int (i_1 + (0 : Int32))), (2, va_rf (some a1)), (3, va_rf (some a14))]) dX1_shut_43 rfl (Nat.le_of_ble_eq_true rfl) rfl rfl ?_
      refine v_goto 10 dX1_shut_44 (by decide) ?_
      refine V.lp (lv' := [(1, .int (i_1 + (0 : Int32))), (2, va_rf (some a1))]) [0, 1] rfl ?_
      exact V.weak hf (by omega) (by omega)
    · replace hf := hf.2 c19
      refine v_iconst (v := 1) dX1_shut_37 (by decide) ?_
      refine v_goto 42 dX1_shut_38 (by decide) ?_
      refine v_iadd dX1_shut_42 ?_
      refine v_istore_n (i := 1) (lv' := [(1, .int (i_1 + (1 : Int32))), (2, va_rf (some a1)), (3, va_rf (some a14))]) dX1_shut_43 rfl (Nat.le_of_ble_eq_true rfl) rfl rfl ?_
      refine v_goto 10 dX1_shut_44 (by decide) ?_
      refine V.lp (lv' := [(1, .int (i_1 + (1 : Int32))), (2, va_rf (some a1))]) [0, 1] rfl ?_
      exact V.weak hf (by omega) (by omega)
theorem b_X1_shut {G : Gt} {h : Hp} {mc ms : Nat} {a0 : Nat} {K : Int32 → Hp → Prop} (hG : Base G) (hf : ∀ E : Ev, V G E Y_X1_shut cX1_shut 4 (QM G E (kI K) xN) h mc ms 0 [(0, .ref a0)] []) : MM G Y_X1_shut cX1_shut 4 mc ms [.ref a0] h (kI K) xN := mm_of hG (by decide +kernel) rfl (ac_c rfl ac_nil) (Nat.le_of_ble_eq_true rfl) (fun E _ _ => hf E)
abbrev Y_X0_sum : Yt := (yX0_sum, some (.int), 1, 40, [])
def g_X0_sum_0 (G : Gt) (E : Ev) (h : Hp) (k n : Nat) (r_0 : Option Nat) (K : Int32 → Hp → Prop) : Prop :=
aL h r_0 fun i6 =>
V G E Y_X0_sum cX0_sum 6 (QM G E (kI K) xN) h k n 10 [(1, .int (0 : Int32)), (2, va_rf r_0), (3, .int i6), (4, .int (0 : Int32))] []
theorem s_X0_sum_0 {G : Gt} {E : Ev} {h : Hp} {k0 n0 : Nat} {r_0 : Option Nat} {K : Int32 → Hp → Prop} (hG : Base G) (hA : 0 ≤ k0) (hB : 0 ≤ n0) (hf : g_X0_sum_0 G E h (k0 - 0) (n0 - 0) r_0 K) : V G E Y_X0_sum cX0_sum 6 (QM G E (kI K) xN) h k0 n0 0 [(0, va_rf r_0)] [] := by
  obtain ⟨k, hk9⟩ : ∃ z, z = k0 - 0 := ⟨_, rfl⟩
  obtain ⟨n, hn9⟩ : ∃ z, z = n0 - 0 := ⟨_, rfl⟩
  rw [← hk9, ← hn9] at hf
  refine V.weak (k' := k + 0) (n' := n + 0) ?_ (by omega) (by omega)
  unfold g_X0_sum_0 at hf
  refine v_iconst (v := 0) dX0_sum_0 (by decide) ?_
  refine v_istore_n (i := 1) (lv' := [(0, va_rf r_0), (1, .int (0 : Int32))]) dX0_sum_1 rfl (Nat.le_of_ble_eq_true rfl) rfl rfl ?_
  refine v_qload_n (r := r_0) (i := 0) dX0_sum_2 rfl rfl ?_
  refine v_qstore_n (i := 2) (r := r_0) (lv' := [(0, va_rf r_0), (1, .int (0 : Int32)), (2, va_rf r_0)]) dX0_sum_3 rfl (Nat.le_of_ble_eq_true rfl) rfl rfl ?_
  refine v_qload_n (r := r_0) (i := 2) dX0_sum_4 rfl rfl ?_
  obtain ⟨a1, rfl⟩ := aL_s hf
  replace hf := aL_e hf
  obtain ⟨w2, t3, x4, hh5, i6, ei6, hf⟩ := hf
  refine v_alen dX0_sum_5 hh5 ei6.symm ?_
  refine v_istore_n (i := 3) (lv' := [(0, va_rf (some a1)), (1, .int (0 : Int32)), (2, va_rf (some a1)), (3, .int i6)]) dX0_sum_6 rfl (Nat.le_of_ble_eq_true rfl) rfl rfl ?_
  refine v_iconst (v := 0) dX0_sum_7 (by decide) ?_
  refine v_istore (i := 4) (lv' := [(0, va_rf (some a1)), (1, .int (0 : Int32)), (2, va_rf (some a1)), (3, .int i6), (4, .int (0 : Int32))]) dX0_sum_8 (Nat.le_of_ble_eq_true rfl) rfl rfl ?_
  refine V.lp (lv' := [(1, .int (0 : Int32)), (2, va_rf (some a1)), (3, .int i6), (4, .int (0 : Int32))]) [1, 2, 3, 4] rfl ?_
  exact V.weak hf (by omega) (by omega)
def g_X0_sum_10 (G : Gt) (E : Ev) (h : Hp) (k n : Nat) (i_1 : Int32) (r_2 : Option Nat) (i_3 : Int32) (i_4 : Int32) (K : Int32 → Hp → Prop) : Prop :=
((i_3 ≤ i_4 → K i_1 h) ∧
(¬ (i_3 ≤ i_4) → aI h r_2 0 i_4 fun i8 =>
V G E Y_X0_sum cX0_sum 6 (QM G E (kI K) xN) h k n 10 [(1, .int (i_1 + i8)), (2, va_rf r_2), (3, .int i_3), (4, .int (i_4 + (1 : Int32)))] []))
theorem s_X0_sum_10 {G : Gt} {E : Ev} {h : Hp} {k0 n0 : Nat} {i_1 : Int32} {r_2 : Option Nat} {i_3 : Int32} {i_4 : Int32} {K : Int32 → Hp → Prop} (hG : Base G) (hA : 0 ≤ k0) (hB : 0 ≤ n0) (hf : g_X0_sum_10 G E h (k0 - 0) (n0 - 0) i_1 r_2 i_3 i_4 K) : V G E Y_X0_sum cX0_sum 6 (QM G E (kI K) xN) h k0 n0 10 [(1, .int i_1), (2, va_rf r_2), (3, .int i_3), (4, .int i_4)] [] := by
  obtain ⟨k, hk9⟩ : ∃ z, z = k0 - 0 := ⟨_, rfl⟩
  obtain ⟨n, hn9⟩ : ∃ z, z = n0 - 0 := ⟨_, rfl⟩
  rw [← hk9, ← hn9] at hf
  refine V.weak (k' := k + 0) (n' := n + 0) ?_ (by omega) (by omega)
  unfold g_X0_sum_10 at hf
  refine v_iload (i := 4) dX0_sum_10 rfl ?_
  refine v_iload_n (i := 3) dX0_sum_12 rfl rfl ?_
  refine v_icmp_ge 33 dX0_sum_13 (by decide) (fun c1 => ?_) (fun c1 => ?_)
  · replace hf := hf.1 c1
    refine v_iload_n (i := 1) dX0_sum_33 rfl rfl ?_
    exact v_iret dX0_sum_34 rfl ⟨_, rfl, hf⟩
  · replace hf := hf.2 c1
    refine v_qload_n (r := r_2) (i := 2) dX0_sum_16 rfl rfl ?_
    refine v_iload (i := 4) dX0_sum_17 rfl ?_
    obtain ⟨a2, rfl⟩ := aI_s hf
    replace hf := aI_e hf
    obtain ⟨w3, N4, f5, hh6, hi7, i8, ei8, hf⟩ := hf
    refine v_iald dX0_sum_19 hh6 hi7 ?_
    rw [← ei8]
    refine v_istore (i := 5) (lv' := [(1, .int i_1), (2, va_rf (some a2)), (3, .int i_3), (4, .int i_4), (5, .int i8)]) dX0_sum_20 (Nat.le_of_ble_eq_true rfl) rfl rfl ?_
    refine v_iload_n (i := 1) dX0_sum_22 rfl rfl ?_
    refine v_iload (i := 5) dX0_sum_23 rfl ?_
    refine v_iadd dX0_sum_25 ?_
    refine v_istore_n (i := 1) (lv' := [(1, .int (i_1 + i8)), (2, va_rf (some a2)), (3, .int i_3), (4, .int i_4), (5, .int i8)]) dX0_sum_26 rfl (Nat.le_of_ble_eq_true rfl) rfl rfl ?_
    refine v_iinc (i := 4) (v := i_4 + (1 : Int32)) (lv' := [(1, .int (i_1 + i8)), (2, va_rf (some a2)), (3, .int i_3), (4, .int (i_4 + (1 : Int32))), (5, .int i8)]) dX0_sum_27 rfl rfl (Nat.le_of_ble_eq_true rfl) rfl rfl ?_
    refine v_goto 10 dX0_sum_30 (by decide) ?_
    refine V.lp (lv' := [(1, .int (i_1 + i8)), (2, va_rf (some a2)), (3, .int i_3), (4, .int (i_4 + (1 : Int32)))]) [0, 1, 2, 3] rfl ?_
    exact V.weak hf (by omega) (by omega)
theorem b_X0_sum {G : Gt} {h : Hp} {mc ms : Nat} {r_0 : Option Nat} {K : Int32 → Hp → Prop} (hG : Base G) (hf : ∀ E : Ev, V G E Y_X0_sum cX0_sum 6 (QM G E (kI K) xN) h mc ms 0 [(0, va_rf r_0)] []) : MM G Y_X0_sum cX0_sum 6 mc ms [va_rf r_0] h (kI K) xN := mm_of hG (by decide +kernel) rfl (ac_c (rf_cat _) ac_nil) (Nat.le_of_ble_eq_true rfl) (fun E _ _ => hf E)
abbrev Y_X1_lying : Yt := (yX1_lying, some (.int), 3, 82, [])
def g_X1_lying_0 (G : Gt) (E : Ev) (h : Hp) (k n : Nat) (a0 : Nat) (K : Int32 → Hp → Prop) : Prop :=
gR h (some a0) 1 0 fun r1 =>
rv h r1 10 (f_J2_iterator G h r1 (fun r11 h10 =>
V G E Y_X1_lying cX1_lying 4 (QM G E (kI K) xN) h10 k n 10 [(1, .int (0 : Int32)), (2, va_rf r11)] []))
theorem s_X1_lying_0 {G : Gt} {E : Ev} {h : Hp} {k0 n0 : Nat} {a0 : Nat} {K : Int32 → Hp → Prop} (hG : Base G) (hA : 1 ≤ k0) (hB : 4 ≤ n0) (hf : g_X1_lying_0 G E h (k0 - 1) (n0 - 4) a0 K) : V G E Y_X1_lying cX1_lying 4 (QM G E (kI K) xN) h k0 n0 0 [(0, .ref a0)] [] := by
  obtain ⟨k, hk9⟩ : ∃ z, z = k0 - 1 := ⟨_, rfl⟩
  obtain ⟨n, hn9⟩ : ∃ z, z = n0 - 4 := ⟨_, rfl⟩
  rw [← hk9, ← hn9] at hf
  refine V.weak (k' := k + 1) (n' := n + 4) ?_ (by omega) (by omega)
  unfold g_X1_lying_0 at hf
  refine v_iconst (v := 0) dX1_lying_0 (by decide) ?_
  refine v_istore_n (i := 1) (lv' := [(0, .ref a0), (1, .int (0 : Int32))]) dX1_lying_1 rfl (Nat.le_of_ble_eq_true rfl) rfl rfl ?_
  refine v_aload_n (i := 0) dX1_lying_2 rfl rfl ?_
  replace hf := gR_e hf
  obtain ⟨w2, fs3, r1, hh4, hk5, hf⟩ := hf
  refine v_getf (T := TX1) (ci := 1) 0 dX1_lying_3 q188 rfl in_X1 (Nat.le_of_ble_eq_true rfl) (Or.inl rfl) hh4 hk5 ?_
  obtain ⟨a6, rfl⟩ := rv_s hf
  replace hf := rv_e hf
  obtain ⟨w7, fs8, hh9, hf⟩ := hf
  refine v_callV (mc := 1) (ms := 4) 0 dX1_lying_6 (m_J2_iterator hG hf) rfl hh9 rfl (lw_V q315 q316 q317 q92 q318) rfl (by decide +kernel) (by decide) rfl (cat_len (Nat.le_of_ble_eq_true rfl)) (kk_R fun r11 h10 hg => ?_) (fun _ _ _ hx => hx.elim)
  replace hf := hg
  clear hg
  refine v_qstore_n (i := 2) (r := r11) (lv' := [(0, .ref a0), (1, .int (0 : Int32)), (2, va_rf r11)]) dX1_lying_9 rfl (Nat.le_of_ble_eq_true rfl) rfl rfl ?_
  refine V.lp (lv' := [(1, .int (0 : Int32)), (2, va_rf r11)]) [1, 2] rfl ?_
  exact V.weak hf (by omega) (by omega)
def g_X1_lying_10 (G : Gt) (E : Ev) (h : Hp) (k n : Nat) (i_1 : Int32) (r_2 : Option Nat) (K : Int32 → Hp → Prop) : Prop :=
rv h r_2 11 (f_J8_hasNext G h r_2 (fun i6 h5 =>
((i6 = 0 → K i_1 h5) ∧
(¬ (i6 = 0) → rv h5 r_2 11 (f_J8_next G h5 r_2 (fun r12 h11 =>
(oc h11 r12 3 ∧ gR h11 r12 3 0 fun r13 =>
dI G Y_X0_sum cX0_sum 6 [va_rf r13] h11 k n (fun i20 h19 k23 n24 =>
V G E Y_X1_lying cX1_lying 4 (QM G E (kI K) xN) h19 k23 n24 10 [(1, .int (i_1 + i20)), (2, va_rf r_2)] []) xN)))))))
theorem s_X1_lying_10 {G : Gt} {E : Ev} {h : Hp} {k0 n0 : Nat} {i_1 : Int32} {r_2 : Option Nat} {K : Int32 → Hp → Prop} (hG : Base G) (hA : 0 ≤ k0) (hB : 0 ≤ n0) (hf : g_X1_lying_10 G E h (k0 - 0) (n0 - 0) i_1 r_2 K) : V G E Y_X1_lying cX1_lying 4 (QM G E (kI K) xN) h k0 n0 10 [(1, .int i_1), (2, va_rf r_2)] [] := by
  obtain ⟨k, hk9⟩ : ∃ z, z = k0 - 0 := ⟨_, rfl⟩
  obtain ⟨n, hn9⟩ : ∃ z, z = n0 - 0 := ⟨_, rfl⟩
  rw [← hk9, ← hn9] at hf
  refine V.weak (k' := k + 0) (n' := n + 0) ?_ (by omega) (by omega)
  unfold g_X1_lying_10 at hf
  refine v_qload_n (r := r_2) (i := 2) dX1_lying_10 rfl rfl ?_
  obtain ⟨a1, rfl⟩ := rv_s hf
  replace hf := rv_e hf
  obtain ⟨w2, fs3, hh4, hf⟩ := hf
  refine V.addK0 ?_
  refine V.addN0 ?_
  refine v_callF (mc := 0) (ms := 0) 0 dX1_lying_11 (m_J8_hasNext hG hf) rfl hh4 rfl (lw_F q339 q343 q345 q99 q347) (fun C9 => v_Fw C9 (by decide) q341 q340 q346 q344 q342) rfl (by decide +kernel) (by decide) rfl (cat_len (Nat.le_of_ble_eq_true rfl)) (kk_I fun i6 h5 hg => ?_) (fun _ _ _ hx => hx.elim)
  replace hf := hg
  clear hg
  refine v_if_eq 42 dX1_lying_16 (by decide) (fun c7 => ?_) (fun c7 => ?_)
  · replace hf := hf.1 c7
    refine v_iload_n (i := 1) dX1_lying_42 rfl rfl ?_
    exact v_iret dX1_lying_43 rfl ⟨_, rfl, hf⟩
  · replace hf := hf.2 c7
    refine v_qload_n (r := (some a1)) (i := 2) dX1_lying_19 rfl rfl ?_
    replace hf := rv_e hf
    obtain ⟨w8, fs9, hh10, hf⟩ := hf
    refine V.addK0 ?_
    refine V.addN0 ?_
    refine v_callF (mc := 0) (ms := 0) 0 dX1_lying_20 (m_J8_next hG hf) rfl hh10 rfl (lw_F q361 q364 q366 q99 q368) (fun C9 => v_Fw C9 (by decide) q363 q362 q367 q365 q342) rfl (by decide +kernel) (by decide) rfl (cat_len (Nat.le_of_ble_eq_true rfl)) (kk_R fun r12 h11 hg => ?_) (fun _ _ _ hx => hx.elim)
    replace hf := hg
    clear hg
    obtain ⟨hoc, hf⟩ := hf
    refine v_castQS (r := r12) dX1_lying_25 q402 hoc rfl ?_
    refine v_qstore_n (i := 3) (r := r12) (lv' := [(1, .int i_1), (2, va_rf (some a1)), (3, va_rf r12)]) dX1_lying_28 rfl (Nat.le_of_ble_eq_true rfl) rfl rfl ?_
    refine v_iload_n (i := 1) dX1_lying_29 rfl rfl ?_
    refine v_qload_n (r := r12) (i := 3) dX1_lying_30 rfl rfl ?_
    obtain ⟨a14, rfl⟩ := gR_s hf
    replace hf := gR_e hf
    obtain ⟨w15, fs16, r13, hh17, hk18, hf⟩ := hf
    refine v_getfN (T := TX3) (ci := 3) 0 dX1_lying_31 q414 rfl in_X3 (Nat.le_of_ble_eq_true rfl) (Or.inl rfl) hh17 hk18 ?_
    obtain ⟨mc21, ms22, hkmc21, hnms22, hM⟩ := hf
    refine V.weak (k' := ((k - mc21) + 0) + mc21) (n' := ((n - ms22) + 0) + ms22) ?_ (by omega) (by omega)
    refine v_callSN 1 dX1_lying_34 hM rfl (lw_meth q2405) q88 q2403 q2404 rfl (by decide +kernel) (by decide) rfl (cat_len (Nat.le_of_ble_eq_true rfl)) (kk_I fun i20 h19 hg => ?_) (fun _ _ _ hx => hx.elim)
    have hf := hg
    clear hg
    refine v_iadd dX1_lying_37 ?_
    refine v_istore_n (i := 1) (lv' := [(1, .int (i_1 + i20)), (2, va_rf (some a1)), (3, va_rf (some a14))]) dX1_lying_38 rfl (Nat.le_of_ble_eq_true rfl) rfl rfl ?_
    refine v_goto 10 dX1_lying_39 (by decide) ?_
    refine V.lp (lv' := [(1, .int (i_1 + i20)), (2, va_rf (some a1))]) [0, 1] rfl ?_
    exact V.weak hf (by omega) (by omega)
theorem b_X1_lying {G : Gt} {h : Hp} {mc ms : Nat} {a0 : Nat} {K : Int32 → Hp → Prop} (hG : Base G) (hf : ∀ E : Ev, V G E Y_X1_lying cX1_lying 4 (QM G E (kI K) xN) h mc ms 0 [(0, .ref a0)] []) : MM G Y_X1_lying cX1_lying 4 mc ms [.ref a0] h (kI K) xN := mm_of hG (by decide +kernel) rfl (ac_c rfl ac_nil) (Nat.le_of_ble_eq_true rfl) (fun E _ _ => hf E)
abbrev Y_X1_inHand : Yt := (yX1_inHand, some (.int), 2, 65, [])
def f_X1_inHand (G : Gt) (h : Hp) (k n : Nat) (t_0 : Option Nat) (K : Int32 → Hp → Prop) : Prop :=
gR h t_0 1 2 fun r1 =>
dI G Y_X0_sum cX0_sum 6 [va_rf r1] h k n (fun i7 h6 k10 n11 =>
K i7 h6) xN
theorem m_X1_inHand {G : Gt} {h : Hp} {mc ms : Nat} {a0 : Nat} {K : Int32 → Hp → Prop} (hG : Base G) (hA : 0 ≤ mc) (hB : 0 ≤ ms) (hf : f_X1_inHand G h (mc - 0) (ms - 0) (some a0) K) : MM G Y_X1_inHand cX1_inHand 1 mc ms [.ref a0] h (kI K) xN := by
  refine mm_of hG (by decide +kernel) rfl (ac_c rfl ac_nil) (Nat.le_of_ble_eq_true rfl) (fun E _ _ => ?_)
  obtain ⟨k, hk9⟩ : ∃ z, z = mc - 0 := ⟨_, rfl⟩
  obtain ⟨n, hn9⟩ : ∃ z, z = ms - 0 := ⟨_, rfl⟩
  rw [← hk9, ← hn9] at hf
  refine V.weak (k' := k + 0) (n' := n + 0) ?_ (by omega) (by omega)
  show V G E Y_X1_inHand cX1_inHand 1 (QM G E (kI K) xN) h (k + 0) (n + 0) 0 [(0, .ref a0)] []
  unfold f_X1_inHand at hf
  refine v_qload_n (r := (some a0)) (i := 0) dX1_inHand_0 rfl rfl ?_
  replace hf := gR_e hf
  obtain ⟨w2, fs3, r1, hh4, hk5, hf⟩ := hf
  refine v_getf (T := TX1) (ci := 1) 2 dX1_inHand_1 q192 rfl in_X1 (Nat.le_of_ble_eq_true rfl) (Or.inl rfl) hh4 hk5 ?_
  obtain ⟨mc8, ms9, hkmc8, hnms9, hM⟩ := hf
  refine V.weak (k' := ((k - mc8) + 0) + mc8) (n' := ((n - ms9) + 0) + ms9) ?_ (by omega) (by omega)
  refine v_callSN 1 dX1_inHand_4 hM rfl (lw_meth q2405) q88 q2403 q2404 rfl (by decide +kernel) (by decide) rfl (cat_len (Nat.le_of_ble_eq_true rfl)) (kk_I fun i7 h6 hg => ?_) (fun _ _ _ hx => hx.elim)
  have hf := hg
  clear hg
  exact v_iret dX1_inHand_7 rfl ⟨_, rfl, hf⟩
abbrev Y_X1_allOil : Yt := (yX1_allOil, some (.int), 3, 82, [])
def g_X1_allOil_0 (G : Gt) (E : Ev) (h : Hp) (k n : Nat) (a0 : Nat) (K : Int32 → Hp → Prop) : Prop :=
gR h (some a0) 1 0 fun r1 =>
rv h r1 10 (f_J2_iterator G h r1 (fun r11 h10 =>
V G E Y_X1_allOil cX1_allOil 4 (QM G E (kI K) xN) h10 k n 10 [(1, .int (0 : Int32)), (2, va_rf r11)] []))
theorem s_X1_allOil_0 {G : Gt} {E : Ev} {h : Hp} {k0 n0 : Nat} {a0 : Nat} {K : Int32 → Hp → Prop} (hG : Base G) (hA : 1 ≤ k0) (hB : 4 ≤ n0) (hf : g_X1_allOil_0 G E h (k0 - 1) (n0 - 4) a0 K) : V G E Y_X1_allOil cX1_allOil 4 (QM G E (kI K) xN) h k0 n0 0 [(0, .ref a0)] [] := by
  obtain ⟨k, hk9⟩ : ∃ z, z = k0 - 1 := ⟨_, rfl⟩
  obtain ⟨n, hn9⟩ : ∃ z, z = n0 - 4 := ⟨_, rfl⟩
  rw [← hk9, ← hn9] at hf
  refine V.weak (k' := k + 1) (n' := n + 4) ?_ (by omega) (by omega)
  unfold g_X1_allOil_0 at hf
  refine v_iconst (v := 0) dX1_allOil_0 (by decide) ?_
  refine v_istore_n (i := 1) (lv' := [(0, .ref a0), (1, .int (0 : Int32))]) dX1_allOil_1 rfl (Nat.le_of_ble_eq_true rfl) rfl rfl ?_
  refine v_aload_n (i := 0) dX1_allOil_2 rfl rfl ?_
  replace hf := gR_e hf
  obtain ⟨w2, fs3, r1, hh4, hk5, hf⟩ := hf
  refine v_getf (T := TX1) (ci := 1) 0 dX1_allOil_3 q188 rfl in_X1 (Nat.le_of_ble_eq_true rfl) (Or.inl rfl) hh4 hk5 ?_
  obtain ⟨a6, rfl⟩ := rv_s hf
  replace hf := rv_e hf
  obtain ⟨w7, fs8, hh9, hf⟩ := hf
  refine v_callV (mc := 1) (ms := 4) 0 dX1_allOil_6 (m_J2_iterator hG hf) rfl hh9 rfl (lw_V q315 q316 q317 q92 q318) rfl (by decide +kernel) (by decide) rfl (cat_len (Nat.le_of_ble_eq_true rfl)) (kk_R fun r11 h10 hg => ?_) (fun _ _ _ hx => hx.elim)
  replace hf := hg
  clear hg
  refine v_qstore_n (i := 2) (r := r11) (lv' := [(0, .ref a0), (1, .int (0 : Int32)), (2, va_rf r11)]) dX1_allOil_9 rfl (Nat.le_of_ble_eq_true rfl) rfl rfl ?_
  refine V.lp (lv' := [(1, .int (0 : Int32)), (2, va_rf r11)]) [1, 2] rfl ?_
  exact V.weak hf (by omega) (by omega)
def g_X1_allOil_10 (G : Gt) (E : Ev) (h : Hp) (k n : Nat) (i_1 : Int32) (r_2 : Option Nat) (K : Int32 → Hp → Prop) : Prop :=
rv h r_2 11 (f_J8_hasNext G h r_2 (fun i6 h5 =>
((i6 = 0 → K i_1 h5) ∧
(¬ (i6 = 0) → rv h5 r_2 11 (f_J8_next G h5 r_2 (fun r12 h11 =>
(oc h11 r12 3 ∧ gI h11 r12 3 1 fun i13 =>
V G E Y_X1_allOil cX1_allOil 4 (QM G E (kI K) xN) h11 k n 10 [(1, .int (i_1 + i13)), (2, va_rf r_2)] [])))))))
theorem s_X1_allOil_10 {G : Gt} {E : Ev} {h : Hp} {k0 n0 : Nat} {i_1 : Int32} {r_2 : Option Nat} {K : Int32 → Hp → Prop} (hG : Base G) (hA : 0 ≤ k0) (hB : 0 ≤ n0) (hf : g_X1_allOil_10 G E h (k0 - 0) (n0 - 0) i_1 r_2 K) : V G E Y_X1_allOil cX1_allOil 4 (QM G E (kI K) xN) h k0 n0 10 [(1, .int i_1), (2, va_rf r_2)] [] := by
  obtain ⟨k, hk9⟩ : ∃ z, z = k0 - 0 := ⟨_, rfl⟩
  obtain ⟨n, hn9⟩ : ∃ z, z = n0 - 0 := ⟨_, rfl⟩
  rw [← hk9, ← hn9] at hf
  refine V.weak (k' := k + 0) (n' := n + 0) ?_ (by omega) (by omega)
  unfold g_X1_allOil_10 at hf
  refine v_qload_n (r := r_2) (i := 2) dX1_allOil_10 rfl rfl ?_
  obtain ⟨a1, rfl⟩ := rv_s hf
  replace hf := rv_e hf
  obtain ⟨w2, fs3, hh4, hf⟩ := hf
  refine V.addK0 ?_
  refine V.addN0 ?_
  refine v_callF (mc := 0) (ms := 0) 0 dX1_allOil_11 (m_J8_hasNext hG hf) rfl hh4 rfl (lw_F q339 q343 q345 q99 q347) (fun C9 => v_Fw C9 (by decide) q341 q340 q346 q344 q342) rfl (by decide +kernel) (by decide) rfl (cat_len (Nat.le_of_ble_eq_true rfl)) (kk_I fun i6 h5 hg => ?_) (fun _ _ _ hx => hx.elim)
  replace hf := hg
  clear hg
  refine v_if_eq 39 dX1_allOil_16 (by decide) (fun c7 => ?_) (fun c7 => ?_)
  · replace hf := hf.1 c7
    refine v_iload_n (i := 1) dX1_allOil_39 rfl rfl ?_
    exact v_iret dX1_allOil_40 rfl ⟨_, rfl, hf⟩
  · replace hf := hf.2 c7
    refine v_qload_n (r := (some a1)) (i := 2) dX1_allOil_19 rfl rfl ?_
    replace hf := rv_e hf
    obtain ⟨w8, fs9, hh10, hf⟩ := hf
    refine V.addK0 ?_
    refine V.addN0 ?_
    refine v_callF (mc := 0) (ms := 0) 0 dX1_allOil_20 (m_J8_next hG hf) rfl hh10 rfl (lw_F q361 q364 q366 q99 q368) (fun C9 => v_Fw C9 (by decide) q363 q362 q367 q365 q342) rfl (by decide +kernel) (by decide) rfl (cat_len (Nat.le_of_ble_eq_true rfl)) (kk_R fun r12 h11 hg => ?_) (fun _ _ _ hx => hx.elim)
    replace hf := hg
    clear hg
    obtain ⟨hoc, hf⟩ := hf
    refine v_castQS (r := r12) dX1_allOil_25 q402 hoc rfl ?_
    refine v_qstore_n (i := 3) (r := r12) (lv' := [(1, .int i_1), (2, va_rf (some a1)), (3, va_rf r12)]) dX1_allOil_28 rfl (Nat.le_of_ble_eq_true rfl) rfl rfl ?_
    refine v_iload_n (i := 1) dX1_allOil_29 rfl rfl ?_
    refine v_qload_n (r := r12) (i := 3) dX1_allOil_30 rfl rfl ?_
    obtain ⟨a14, rfl⟩ := gI_s hf
    replace hf := gI_e hf
    obtain ⟨w15, fs16, i13, hh17, hk18, hf⟩ := hf
    refine v_getfN (T := TX3) (ci := 3) 1 dX1_allOil_31 q416 rfl in_X3 (Nat.le_of_ble_eq_true rfl) (Or.inl rfl) hh17 hk18 ?_
    refine v_iadd dX1_allOil_34 ?_
    refine v_istore_n (i := 1) (lv' := [(1, .int (i_1 + i13)), (2, va_rf (some a1)), (3, va_rf (some a14))]) dX1_allOil_35 rfl (Nat.le_of_ble_eq_true rfl) rfl rfl ?_
    refine v_goto 10 dX1_allOil_36 (by decide) ?_
    refine V.lp (lv' := [(1, .int (i_1 + i13)), (2, va_rf (some a1))]) [0, 1] rfl ?_
    exact V.weak hf (by omega) (by omega)
theorem b_X1_allOil {G : Gt} {h : Hp} {mc ms : Nat} {a0 : Nat} {K : Int32 → Hp → Prop} (hG : Base G) (hf : ∀ E : Ev, V G E Y_X1_allOil cX1_allOil 4 (QM G E (kI K) xN) h mc ms 0 [(0, .ref a0)] []) : MM G Y_X1_allOil cX1_allOil 4 mc ms [.ref a0] h (kI K) xN := mm_of hG (by decide +kernel) rfl (ac_c rfl ac_nil) (Nat.le_of_ble_eq_true rfl) (fun E _ _ => hf E)
