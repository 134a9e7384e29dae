/-! walks printed by tools/mkwalk.py -/
set_option maxRecDepth 100000
abbrev Y_J3_init : Yt := (yJ3_init, none, 2, 60, [])
def f_J3_init (G : Gt) (h : Hp) (t_0 : Option Nat) (K : Hp → Prop) : Prop :=
f_J0_init G h t_0 (fun h1 =>
nA h1 3 (17, .inr (.inr (.inr (.inr (fun _ => none))))) fun a2 h3 =>
pF h3 t_0 12 0 (.ref a2) fun h6 =>
K h6)
theorem m_J3_init {G : Gt} {h : Hp} {a0 : Nat} {K : Hp → Prop} (hG : Base G) (hf : f_J3_init G h (some a0) K) : MM G Y_J3_init cJ3_init 1 1 17 [.ref a0] h (kV K) xN := by
  refine mm_of hG (by decide +kernel) rfl (ac_c rfl ac_nil) (Nat.le_of_ble_eq_true rfl) (fun E _ _ => ?_)
  show V G E Y_J3_init cJ3_init 1 (QM G E (kV K) xN) h 1 17 0 [(0, .ref a0)] []
  unfold f_J3_init at hf
  refine v_qload_n (r := (some a0)) (i := 0) dJ3_init_0 rfl rfl ?_
  refine V.addK0 ?_
  refine V.addN0 ?_
  refine v_callI (mc := 0) (ms := 0) 0 dJ3_init_1 (m_J0_init hG hf) rfl (lw_meth q165) rfl q90 q229 q164 rfl rfl (by decide +kernel) (by decide) rfl (cat_len (Nat.le_of_ble_eq_true rfl)) (kk_V fun h1 hg => ?_) (fun _ _ _ hx => hx.elim)
  replace hf := hg
  clear hg
  refine v_qload_n (r := (some a0)) (i := 0) dJ3_init_4 rfl rfl ?_
  refine v_bipush (v := 17) dJ3_init_5 (by decide) ?_
  refine v_newq (t := 3) (N := 17) dJ3_init_7 (Nat.le_of_ble_eq_true rfl) rfl q230 q168 rfl (Nat.le_of_ble_eq_true rfl) (fun a2 ha2 => ?_)
  replace hf := hf a2 ha2
  obtain ⟨h3, eh3⟩ : ∃ z, z = hs h1 a2 (true, .inl (3, (17, .inr (.inr (.inr (.inr (fun _ => none))))))) := ⟨_, rfl⟩
  try rw [← eh3] at hf
  rw [← eh3]
  replace hf := pF_e hf
  obtain ⟨fs4, hh5, hf⟩ := hf
  refine v_putf (v := .ref a2) (T := TJ3) (ci := 12) (ty := .array (.object "java/lang/Object")) 0 dJ3_init_10 q231 rfl in_J3 tyJ3 tyJ3_ok nmJ3 (Nat.le_of_ble_eq_true rfl) (Or.inl rfl) rfl (by decide +kernel) rfl rfl hh5 ?_
  obtain ⟨h6, eh6⟩ : ∃ z, z = hs h3 a0 (true, .inr (12, fs4.set 0 (.ref a2))) := ⟨_, rfl⟩
  try rw [← eh6] at hf
  rw [← eh6]
  exact v_vret dJ3_init_13 rfl ⟨rfl, hf⟩
abbrev Y_X0_init_2 : Yt := (yX0_init_2, none, 3, 81, [])
def f_X0_init_2 (G : Gt) (h : Hp) (t_0 : Option Nat) (r_1 : Option Nat) (K : Hp → Prop) : Prop :=
nO h 12 [.null, .int 0, .int 0] fun a1 h2 =>
f_J3_init G h2 (some a1) (fun h3 =>
pF h3 t_0 0 2 (.ref a1) fun h6 =>
nO h6 13 [.null, .int 0, .int 0, .int 0] fun a7 h8 =>
f_J5_init G h8 (some a7) (fun h9 =>
pF h9 t_0 0 5 (.ref a7) fun h12 =>
pF h12 t_0 0 6 (.ref (g_k G 9)) fun h15 =>
pF h15 t_0 0 0 (va_rf r_1) fun h18 =>
K h18))
theorem m_X0_init_2 {G : Gt} {h : Hp} {a0 : Nat} {r_1 : Option Nat} {K : Hp → Prop} (hG : Base G) (hf : f_X0_init_2 G h (some a0) r_1 K) : MM G Y_X0_init_2 cX0_init_2 2 4 40 [.ref a0, va_rf r_1] h (kV K) xN := by
  refine mm_of hG (by decide +kernel) rfl (ac_c rfl (ac_c (rf_cat _) ac_nil)) (Nat.le_of_ble_eq_true rfl) (fun E _ _ => ?_)
  show V G E Y_X0_init_2 cX0_init_2 2 (QM G E (kV K) xN) h 4 40 0 [(0, .ref a0), (1, va_rf r_1)] []
  unfold f_X0_init_2 at hf
  refine v_qload_n (r := (some a0)) (i := 0) dX0_init_2_0 rfl rfl ?_
  refine v_objInit dX0_init_2_1 q223 q153 q154 (cat_len (Nat.le_of_ble_eq_true rfl)) (Nat.le_of_ble_eq_true rfl) (Nat.le_of_ble_eq_true rfl) ?_
  refine v_qload_n (r := (some a0)) (i := 0) dX0_init_2_4 rfl rfl ?_
  refine v_new (N := 3) (fs := [.null, .int 0, .int 0]) (ci := 12) dX0_init_2_5 q224 q225 q93 rfl in_J3 tyJ3 tyJ3_ok rfl (fun a1 ha1 => ?_)
  replace hf := hf a1 ha1
  obtain ⟨h2, eh2⟩ : ∃ z, z = hs h a1 (true, .inr (12, [.null, .int 0, .int 0])) := ⟨_, rfl⟩
  try rw [← eh2] at hf
  rw [← eh2]
  refine v_dup dX0_init_2_8 rfl ?_
  refine v_callI (mc := 1) (ms := 17) 0 dX0_init_2_9 (m_J3_init hG hf) rfl (lw_meth q228) rfl q93 q226 q227 rfl rfl (by decide +kernel) (by decide) rfl (cat_len (Nat.le_of_ble_eq_true rfl)) (kk_V fun h3 hg => ?_) (fun _ _ _ hx => hx.elim)
  replace hf := hg
  clear hg
  replace hf := pF_e hf
  obtain ⟨fs4, hh5, hf⟩ := hf
  refine v_putfF (v := .ref a1) (T := TX0) (ci := 0) (ty := .object "java/util/ArrayDeque") 2 dX0_init_2_12 q277 rfl in_X0 tyX0 tyX0_ok nmX0 (Nat.le_of_ble_eq_true rfl) (Or.inl rfl) rfl rfl rfl (by decide +kernel) rfl rfl hh5 ?_
  obtain ⟨h6, eh6⟩ : ∃ z, z = hs h3 a0 (true, .inr (0, fs4.set 2 (.ref a1))) := ⟨_, rfl⟩
  try rw [← eh6] at hf
  rw [← eh6]
  refine v_qload_n (r := (some a0)) (i := 0) dX0_init_2_15 rfl rfl ?_
  refine v_new (N := 4) (fs := [.null, .int 0, .int 0, .int 0]) (ci := 13) dX0_init_2_16 q241 q242 q95 rfl in_J5 tyJ5 tyJ5_ok rfl (fun a7 ha7 => ?_)
  replace hf := hf a7 ha7
  obtain ⟨h8, eh8⟩ : ∃ z, z = hs h6 a7 (true, .inr (13, [.null, .int 0, .int 0, .int 0])) := ⟨_, rfl⟩
  try rw [← eh8] at hf
  rw [← eh8]
  refine v_dup dX0_init_2_19 rfl ?_
  refine v_callI (mc := 1) (ms := 16) 0 dX0_init_2_20 (m_J5_init hG hf) rfl (lw_meth q245) rfl q95 q243 q244 rfl rfl (by decide +kernel) (by decide) rfl (cat_len (Nat.le_of_ble_eq_true rfl)) (kk_V fun h9 hg => ?_) (fun _ _ _ hx => hx.elim)
  replace hf := hg
  clear hg
  replace hf := pF_e hf
  obtain ⟨fs10, hh11, hf⟩ := hf
  refine v_putfF (v := .ref a7) (T := TX0) (ci := 0) (ty := .object "java/lang/StringBuilder") 5 dX0_init_2_23 q281 rfl in_X0 tyX0 tyX0_ok nmX0 (Nat.le_of_ble_eq_true rfl) (Or.inl rfl) rfl rfl rfl (by decide +kernel) rfl rfl hh11 ?_
  obtain ⟨h12, eh12⟩ : ∃ z, z = hs h9 a0 (true, .inr (0, fs10.set 5 (.ref a7))) := ⟨_, rfl⟩
  try rw [← eh12] at hf
  rw [← eh12]
  refine v_qload_n (r := (some a0)) (i := 0) dX0_init_2_26 rfl rfl ?_
  refine v_ldcS dX0_init_2_27 (List.mem_of_getElem? (i := 0) rfl) ?_
  replace hf := pF_e hf
  obtain ⟨fs13, hh14, hf⟩ := hf
  refine v_putf (v := .ref (g_k G 9)) (T := TX0) (ci := 0) (ty := .object "java/lang/String") 6 dX0_init_2_29 q282 rfl in_X0 tyX0 tyX0_ok nmX0 (Nat.le_of_ble_eq_true rfl) (Or.inl rfl) rfl (by decide +kernel) rfl rfl hh14 ?_
  obtain ⟨h15, eh15⟩ : ∃ z, z = hs h12 a0 (true, .inr (0, fs13.set 6 (.ref (g_k G 9)))) := ⟨_, rfl⟩
  try rw [← eh15] at hf
  rw [← eh15]
  refine v_qload_n (r := (some a0)) (i := 0) dX0_init_2_32 rfl rfl ?_
  refine v_qload_n (r := r_1) (i := 1) dX0_init_2_33 rfl rfl ?_
  replace hf := pF_e hf
  obtain ⟨fs16, hh17, hf⟩ := hf
  refine v_putf (v := va_rf r_1) (T := TX0) (ci := 0) (ty := .object "ParityMaze$Maze") 0 dX0_init_2_34 q275 rfl in_X0 tyX0 tyX0_ok nmX0 (Nat.le_of_ble_eq_true rfl) (Or.inl rfl) rfl (by decide +kernel) (rf_nar _ _) (rf_fit _ _) hh17 ?_
  obtain ⟨h18, eh18⟩ : ∃ z, z = hs h15 a0 (true, .inr (0, fs16.set 0 (va_rf r_1))) := ⟨_, rfl⟩
  try rw [← eh18] at hf
  rw [← eh18]
  exact v_vret dX0_init_2_37 rfl ⟨rfl, hf⟩
abbrev Y_X0_init : Yt := (yX0_init, none, 5, 121, [])
def f_X0_init (G : Gt) (h : Hp) (t_0 : Option Nat) (K : Hp → Prop) : Prop :=
nO h 1 [.null, .null, .null, .int 0, .int 0, .int 0, .int 0, .int 0] fun a1 h2 =>
f_X1_init G h2 (some a1) (fun h3 =>
f_X0_init_2 G h3 t_0 (some a1) (fun h4 =>
K h4))
theorem m_X0_init {G : Gt} {h : Hp} {a0 : Nat} {K : Hp → Prop} (hG : Base G) (hf : f_X0_init G h (some a0) K) : MM G Y_X0_init cX0_init 1 10 89 [.ref a0] h (kV K) xN := by
  refine mm_of hG (by decide +kernel) rfl (ac_c rfl ac_nil) (Nat.le_of_ble_eq_true rfl) (fun E _ _ => ?_)
  show V G E Y_X0_init cX0_init 1 (QM G E (kV K) xN) h 10 89 0 [(0, .ref a0)] []
  unfold f_X0_init at hf
  refine v_qload_n (r := (some a0)) (i := 0) dX0_init_0 rfl rfl ?_
  refine v_new (N := 8) (fs := [.null, .null, .null, .int 0, .int 0, .int 0, .int 0, .int 0]) (ci := 1) dX0_init_1 q147 q148 q89 rfl in_X1 tyX1 tyX1_ok rfl (fun a1 ha1 => ?_)
  replace hf := hf a1 ha1
  obtain ⟨h2, eh2⟩ : ∃ z, z = hs h a1 (true, .inr (1, [.null, .null, .null, .int 0, .int 0, .int 0, .int 0, .int 0])) := ⟨_, rfl⟩
  try rw [← eh2] at hf
  rw [← eh2]
  refine v_dup dX0_init_4 rfl ?_
  refine v_callIN (mc := 5) (ms := 41) 0 dX0_init_5 (m_X1_init hG hf) rfl (lw_meth q151) rfl q89 q149 q150 rfl rfl (by decide +kernel) (by decide) rfl (cat_len (Nat.le_of_ble_eq_true rfl)) (kk_V fun h3 hg => ?_) (fun _ _ _ hx => hx.elim)
  replace hf := hg
  clear hg
  refine v_callI (mc := 4) (ms := 40) 1 dX0_init_8 (m_X0_init_2 hG hf) rfl (lw_meth q222) rfl q88 q220 q221 rfl rfl (by decide +kernel) (by decide) rfl (cat_len (Nat.le_of_ble_eq_true rfl)) (kk_V fun h4 hg => ?_) (fun _ _ _ hx => hx.elim)
  replace hf := hg
  clear hg
  exact v_vret dX0_init_11 rfl ⟨rfl, hf⟩
abbrev Y_J3_sub : Yt := (yJ3_sub, some (.int), 1, 40, [])
def f_J3_sub (G : Gt) (h : Hp) (i_0 : Int32) (i_1 : Int32) (i_2 : Int32) (K : Int32 → Hp → Prop) : Prop :=
((0 ≤ i_0 - i_1 → K (i_0 - i_1) h) ∧
(¬ (0 ≤ i_0 - i_1) → K ((i_0 - i_1) + i_2) h))
theorem m_J3_sub {G : Gt} {h : Hp} {i_0 : Int32} {i_1 : Int32} {i_2 : Int32} {K : Int32 → Hp → Prop} (hG : Base G) (hf : f_J3_sub G h i_0 i_1 i_2 K) : MM G Y_J3_sub cJ3_sub 3 0 0 [.int i_0, .int i_1, .int i_2] h (kI K) xN := by
  refine mm_of hG (by decide +kernel) rfl (ac_c rfl (ac_c rfl (ac_c rfl ac_nil))) (Nat.le_of_ble_eq_true rfl) (fun E _ _ => ?_)
  show V G E Y_J3_sub cJ3_sub 3 (QM G E (kI K) xN) h 0 0 0 [(0, .int i_0), (1, .int i_1), (2, .int i_2)] []
  unfold f_J3_sub at hf
  refine v_iload_n (i := 0) dJ3_sub_0 rfl rfl ?_
  refine v_iload_n (i := 1) dJ3_sub_1 rfl rfl ?_
  refine v_isub dJ3_sub_2 ?_
  refine v_dup dJ3_sub_3 rfl ?_
  refine v_istore_n (i := 0) (lv' := [(0, .int (i_0 - i_1)), (1, .int i_1), (2, .int i_2)]) dJ3_sub_4 rfl (Nat.le_of_ble_eq_true rfl) rfl rfl ?_
  refine v_if_ge 12 dJ3_sub_5 (by decide) (fun c1 => ?_) (fun c1 => ?_)
  · replace hf := hf.1 c1
    refine v_iload_n (i := 0) dJ3_sub_12 rfl rfl ?_
    exact v_iret dJ3_sub_13 rfl ⟨_, rfl, hf⟩
  · replace hf := hf.2 c1
    refine v_iload_n (i := 0) dJ3_sub_8 rfl rfl ?_
    refine v_iload_n (i := 2) dJ3_sub_9 rfl rfl ?_
    refine v_iadd dJ3_sub_10 ?_
    refine v_istore_n (i := 0) (lv' := [(0, .int ((i_0 - i_1) + i_2)), (1, .int i_1), (2, .int i_2)]) dJ3_sub_11 rfl (Nat.le_of_ble_eq_true rfl) rfl rfl ?_
    refine v_iload_n (i := 0) dJ3_sub_12 rfl rfl ?_
    exact v_iret dJ3_sub_13 rfl ⟨_, rfl, hf⟩
abbrev Y_J3_size : Yt := (yJ3_size, some (.int), 2, 62, [])
def f_J3_size (G : Gt) (h : Hp) (t_0 : Option Nat) (K : Int32 → Hp → Prop) : Prop :=
gI h t_0 12 2 fun i1 =>
gI h t_0 12 1 fun i6 =>
gR h t_0 12 0 fun r11 =>
aL h r11 fun i21 =>
f_J3_sub G h i1 i6 i21 (fun i23 h22 =>
K i23 h22)
theorem m_J3_size {G : Gt} {h : Hp} {a0 : Nat} {K : Int32 → Hp → Prop} (hG : Base G) (hf : f_J3_size G h (some a0) K) : MM G Y_J3_size cJ3_size 1 0 0 [.ref a0] h (kI K) xN := by
  refine mm_of hG (by decide +kernel) rfl (ac_c rfl ac_nil) (Nat.le_of_ble_eq_true rfl) (fun E _ _ => ?_)
  show V G E Y_J3_size cJ3_size 1 (QM G E (kI K) xN) h 0 0 0 [(0, .ref a0)] []
  unfold f_J3_size at hf
  refine v_qload_n (r := (some a0)) (i := 0) dJ3_size_0 rfl rfl ?_
  replace hf := gI_e hf
  obtain ⟨w2, fs3, i1, hh4, hk5, hf⟩ := hf
  refine v_getf (T := TJ3) (ci := 12) 2 dJ3_size_1 q233 rfl in_J3 (Nat.le_of_ble_eq_true rfl) (Or.inl rfl) hh4 hk5 ?_
  refine v_qload_n (r := (some a0)) (i := 0) dJ3_size_4 rfl rfl ?_
  replace hf := gI_e hf
  obtain ⟨w7, fs8, i6, hh9, hk10, hf⟩ := hf
  refine v_getf (T := TJ3) (ci := 12) 1 dJ3_size_5 q232 rfl in_J3 (Nat.le_of_ble_eq_true rfl) (Or.inl rfl) hh9 hk10 ?_
  refine v_qload_n (r := (some a0)) (i := 0) dJ3_size_8 rfl rfl ?_
  replace hf := gR_e hf
  obtain ⟨w12, fs13, r11, hh14, hk15, hf⟩ := hf
  refine v_getf (T := TJ3) (ci := 12) 0 dJ3_size_9 q231 rfl in_J3 (Nat.le_of_ble_eq_true rfl) (Or.inl rfl) hh14 hk15 ?_
  obtain ⟨a16, rfl⟩ := aL_s hf
  replace hf := aL_e hf
  obtain ⟨w17, t18, x19, hh20, i21, ei21, hf⟩ := hf
  refine v_alen dJ3_size_12 hh20 ei21.symm ?_
  refine V.addK0 ?_
  refine V.addN0 ?_
  refine v_callS (mc := 0) (ms := 0) 3 dJ3_size_13 (m_J3_sub hG hf) rfl (lw_S q612 q613 q93 q614) rfl (by decide +kernel) (by decide) rfl (cat_len (Nat.le_of_ble_eq_true rfl)) (kk_I fun i23 h22 hg => ?_) (fun _ _ _ hx => hx.elim)
  replace hf := hg
  clear hg
  exact v_iret dJ3_size_16 rfl ⟨_, rfl, hf⟩
abbrev Y_J3_elementAt : Yt := (yJ3_elementAt, some (.object "java/lang/Object"), 1, 40, [])
def f_J3_elementAt (G : Gt) (h : Hp) (r_0 : Option Nat) (i_1 : Int32) (K : Option Nat → Hp → Prop) : Prop :=
aQ h r_0 i_1 fun r9 =>
K r9 h
theorem m_J3_elementAt {G : Gt} {h : Hp} {r_0 : Option Nat} {i_1 : Int32} {K : Option Nat → Hp → Prop} (hG : Base G) (hf : f_J3_elementAt G h r_0 i_1 K) : MM G Y_J3_elementAt cJ3_elementAt 2 0 0 [va_rf r_0, .int i_1] h (kR K) xN := by
  refine mm_of hG (by decide +kernel) rfl (ac_c (rf_cat _) (ac_c rfl ac_nil)) (Nat.le_of_ble_eq_true rfl) (fun E _ _ => ?_)
  show V G E Y_J3_elementAt cJ3_elementAt 2 (QM G E (kR K) xN) h 0 0 0 [(0, va_rf r_0), (1, .int i_1)] []
  unfold f_J3_elementAt at hf
  refine v_qload_n (r := r_0) (i := 0) dJ3_elementAt_0 rfl rfl ?_
  refine v_iload_n (i := 1) dJ3_elementAt_1 rfl rfl ?_
  obtain ⟨a1, rfl⟩ := aQ_s hf
  replace hf := aQ_e hf
  obtain ⟨w2, t3, N4, f5, hh6, ht7, hi8, r9, er9, hf⟩ := hf
  refine v_aald dJ3_elementAt_2 ht7 hh6 hi8 ?_
  rw [← er9]
  exact v_qret (r := r9) dJ3_elementAt_3 rfl (Or.inl ⟨_, rfl⟩) ⟨_, rfl, hf⟩
abbrev Y_J3_pollFirst : Yt := (yJ3_pollFirst, some (.object "java/lang/Object"), 2, 61, [])
def f_J3_pollFirst (G : Gt) (h : Hp) (t_0 : Option Nat) (K : Option Nat → Hp → Prop) : Prop :=
gR h t_0 12 0 fun r1 =>
gI h t_0 12 1 fun i6 =>
f_J3_elementAt G h r1 i6 (fun r12 h11 =>
((r12 = none → K r12 h11) ∧
(∀ y13, r12 = some y13 → sQ h11 r1 i6 none fun h23 =>
aL h23 r1 fun i28 =>
f_J3_inc G h23 i6 i28 (fun i30 h29 =>
pF h29 t_0 12 1 (.int i30) fun h33 =>
K r12 h33))))
theorem m_J3_pollFirst {G : Gt} {h : Hp} {a0 : Nat} {K : Option Nat → Hp → Prop} (hG : Base G) (hf : f_J3_pollFirst G h (some a0) K) : MM G Y_J3_pollFirst cJ3_pollFirst 4 0 0 [.ref a0] h (kR K) xN := by
  refine mm_of hG (by decide +kernel) rfl (ac_c rfl ac_nil) (Nat.le_of_ble_eq_true rfl) (fun E _ _ => ?_)
  show V G E Y_J3_pollFirst cJ3_pollFirst 4 (QM G E (kR K) xN) h 0 0 0 [(0, .ref a0)] []
  unfold f_J3_pollFirst at hf
  refine v_qload_n (r := (some a0)) (i := 0) dJ3_pollFirst_0 rfl rfl ?_
  replace hf := gR_e hf
  obtain ⟨w2, fs3, r1, hh4, hk5, hf⟩ := hf
  refine v_getf (T := TJ3) (ci := 12) 0 dJ3_pollFirst_1 q231 rfl in_J3 (Nat.le_of_ble_eq_true rfl) (Or.inl rfl) hh4 hk5 ?_
  refine v_dup dJ3_pollFirst_4 (rf_cat _) ?_
  refine v_qstore_n (i := 1) (r := r1) (lv' := [(0, va_rf (some a0)), (1, va_rf r1)]) dJ3_pollFirst_5 rfl (Nat.le_of_ble_eq_true rfl) rfl rfl ?_
  refine v_qload_n (r := (some a0)) (i := 0) dJ3_pollFirst_6 rfl rfl ?_
  replace hf := gI_e hf
  obtain ⟨w7, fs8, i6, hh9, hk10, hf⟩ := hf
  refine v_getf (T := TJ3) (ci := 12) 1 dJ3_pollFirst_7 q232 rfl in_J3 (Nat.le_of_ble_eq_true rfl) (Or.inl rfl) hh9 hk10 ?_
  refine v_dup dJ3_pollFirst_10 rfl ?_
  refine v_istore_n (i := 2) (lv' := [(0, va_rf (some a0)), (1, va_rf r1), (2, .int i6)]) dJ3_pollFirst_11 rfl (Nat.le_of_ble_eq_true rfl) rfl rfl ?_
  refine V.addK0 ?_
  refine V.addN0 ?_
  refine v_callS (mc := 0) (ms := 0) 2 dJ3_pollFirst_12 (m_J3_elementAt hG hf) rfl (lw_S q623 q624 q93 q625) rfl (by decide +kernel) (by decide) rfl (cat_len (Nat.le_of_ble_eq_true rfl)) (kk_R fun r12 h11 hg => ?_) (fun _ _ _ hx => hx.elim)
  replace hf := hg
  clear hg
  refine v_qstore_n (i := 3) (r := r12) (lv' := [(0, va_rf (some a0)), (1, va_rf r1), (2, .int i6), (3, va_rf r12)]) dJ3_pollFirst_15 rfl (Nat.le_of_ble_eq_true rfl) rfl rfl ?_
  refine v_qload_n (r := r12) (i := 3) dJ3_pollFirst_16 rfl rfl ?_
  refine v_ifnull 34 dJ3_pollFirst_17 (by decide) (fun e14 => ?_) (fun y13 e14 => ?_)
  · replace hf := hf.1 e14
    subst e14
    refine v_qload_n (r := none) (i := 3) dJ3_pollFirst_34 rfl rfl ?_
    exact v_qret (r := none) dJ3_pollFirst_35 rfl (Or.inl ⟨_, rfl⟩) ⟨_, rfl, hf⟩
  · replace hf := hf.2 y13 e14
    subst e14
    refine v_qload_n (r := r1) (i := 1) dJ3_pollFirst_20 rfl rfl ?_
    refine v_iload_n (i := 2) dJ3_pollFirst_21 rfl rfl ?_
    refine v_null dJ3_pollFirst_22 ?_
    obtain ⟨a15, rfl⟩ := sQ_s hf
    replace hf := sQ_e hf
    obtain ⟨t16, N17, f18, hh19, hD21, hi20, hy22, hf⟩ := hf
    refine v_sQ (y := none) dJ3_pollFirst_23 hD21 hh19 hi20 hy22 ?_
    obtain ⟨h23, eh23⟩ : ∃ z, z = hs h11 a15 (true, .inl (t16, N17, .inr (.inr (.inr (.inr (va_up f18 (i6).toNatClampNeg none)))))) := ⟨_, rfl⟩
    try rw [← eh23] at hf
    rw [← eh23]
    refine v_qload_n (r := (some a0)) (i := 0) dJ3_pollFirst_24 rfl rfl ?_
    refine v_iload_n (i := 2) dJ3_pollFirst_25 rfl rfl ?_
    refine v_qload_n (r := (some a15)) (i := 1) dJ3_pollFirst_26 rfl rfl ?_
    replace hf := aL_e hf
    obtain ⟨w24, t25, x26, hh27, i28, ei28, hf⟩ := hf
    refine v_alen dJ3_pollFirst_27 hh27 ei28.symm ?_
    refine V.addK0 ?_
    refine V.addN0 ?_
    refine v_callS (mc := 0) (ms := 0) 2 dJ3_pollFirst_28 (m_J3_inc hG hf) rfl (lw_S q593 q594 q93 q595) rfl (by decide +kernel) (by decide) rfl (cat_len (Nat.le_of_ble_eq_true rfl)) (kk_I fun i30 h29 hg => ?_) (fun _ _ _ hx => hx.elim)
    replace hf := hg
    clear hg
    replace hf := pF_e hf
    obtain ⟨fs31, hh32, hf⟩ := hf
    refine v_putf (v := .int i30) (T := TJ3) (ci := 12) (ty := .int) 1 dJ3_pollFirst_31 q232 rfl in_J3 tyJ3 tyJ3_ok nmJ3 (Nat.le_of_ble_eq_true rfl) (Or.inl rfl) rfl (by decide +kernel) rfl rfl hh32 ?_
    obtain ⟨h33, eh33⟩ : ∃ z, z = hs h29 a0 (true, .inr (12, fs31.set 1 (.int i30))) := ⟨_, rfl⟩
    try rw [← eh33] at hf
    rw [← eh33]
    refine v_qload_n (r := (some y13)) (i := 3) dJ3_pollFirst_34 rfl rfl ?_
    exact v_qret (r := (some y13)) dJ3_pollFirst_35 rfl (Or.inl ⟨_, rfl⟩) ⟨_, rfl, hf⟩
abbrev Y_J3_removeFirst : Yt := (yJ3_removeFirst, some (.object "java/lang/Object"), 3, 84, [])
def f_J3_removeFirst (G : Gt) (h : Hp) (t_0 : Option Nat) (K : Option Nat → Hp → Prop) : Prop :=
rv h t_0 12 (f_J3_pollFirst G h t_0 (fun r5 h4 =>
((r5 = none → False) ∧
(∀ y6, r5 = some y6 → K r5 h4))))
theorem m_J3_removeFirst {G : Gt} {h : Hp} {a0 : Nat} {K : Option Nat → Hp → Prop} (hG : Base G) (hf : f_J3_removeFirst G h (some a0) K) : MM G Y_J3_removeFirst cJ3_removeFirst 2 0 0 [.ref a0] h (kR K) xN := by
  refine mm_of hG (by decide +kernel) rfl (ac_c rfl ac_nil) (Nat.le_of_ble_eq_true rfl) (fun E _ _ => ?_)
  show V G E Y_J3_removeFirst cJ3_removeFirst 2 (QM G E (kR K) xN) h 0 0 0 [(0, .ref a0)] []
  unfold f_J3_removeFirst at hf
  refine v_qload_n (r := (some a0)) (i := 0) dJ3_removeFirst_0 rfl rfl ?_
  replace hf := rv_e hf
  obtain ⟨w1, fs2, hh3, hf⟩ := hf
  refine V.addK0 ?_
  refine V.addN0 ?_
  refine v_callV (mc := 0) (ms := 0) 0 dJ3_removeFirst_1 (m_J3_pollFirst hG hf) rfl hh3 rfl (lw_V q619 q620 q621 q93 q622) rfl (by decide +kernel) (by decide) rfl (cat_len (Nat.le_of_ble_eq_true rfl)) (kk_R fun r5 h4 hg => ?_) (fun _ _ _ hx => hx.elim)
  replace hf := hg
  clear hg
  refine v_qstore_n (i := 1) (r := r5) (lv' := [(0, va_rf (some a0)), (1, va_rf r5)]) dJ3_removeFirst_4 rfl (Nat.le_of_ble_eq_true rfl) rfl rfl ?_
  refine v_qload_n (r := r5) (i := 1) dJ3_removeFirst_5 rfl rfl ?_
  refine v_ifnonnull 17 dJ3_removeFirst_6 (by decide) (fun y6 e7 => ?_) (fun e7 => ?_)
  · replace hf := hf.2 y6 e7
    subst e7
    refine v_qload_n (r := (some y6)) (i := 1) dJ3_removeFirst_17 rfl rfl ?_
    exact v_qret (r := (some y6)) dJ3_removeFirst_18 rfl (Or.inl ⟨_, rfl⟩) ⟨_, rfl, hf⟩
  · replace hf := hf.1 e7
    subst e7
    exact hf.elim
abbrev Y_X0_changed : Yt := (yX0_changed, some (.int), 4, 105, [])
def f_X0_changed (G : Gt) (h : Hp) (t_0 : Option Nat) (r_1 : Option Nat) (i_2 : Int32) (K : Int32 → Hp → Prop) : Prop :=
gR h t_0 0 2 fun r1 =>
rv h r1 12 (f_J3_addLast G h r1 r_1 (fun h10 =>
gR h10 t_0 0 2 fun r11 =>
rv h10 r11 12 (f_J3_size G h10 r11 (fun i21 h20 =>
((i21 ≤ (8 : Int32) → K i_2 h20) ∧
(¬ (i21 ≤ (8 : Int32)) → gR h20 t_0 0 2 fun r23 =>
rv h20 r23 12 (f_J3_removeFirst G h20 r23 (fun r33 h32 =>
K i_2 h32))))))))
theorem m_X0_changed {G : Gt} {h : Hp} {a0 : Nat} {r_1 : Option Nat} {i_2 : Int32} {K : Int32 → Hp → Prop} (hG : Base G) (hf : f_X0_changed G h (some a0) r_1 i_2 K) : MM G Y_X0_changed cX0_changed 3 0 0 [.ref a0, va_rf r_1, .int i_2] h (kI K) xN := by
  refine mm_of hG (by decide +kernel) rfl (ac_c rfl (ac_c (rf_cat _) (ac_c rfl ac_nil))) (Nat.le_of_ble_eq_true rfl) (fun E _ _ => ?_)
  show V G E Y_X0_changed cX0_changed 3 (QM G E (kI K) xN) h 0 0 0 [(0, .ref a0), (1, va_rf r_1), (2, .int i_2)] []
  unfold f_X0_changed at hf
  refine v_qload_n (r := (some a0)) (i := 0) dX0_changed_0 rfl rfl ?_
  replace hf := gR_e hf
  obtain ⟨w2, fs3, r1, hh4, hk5, hf⟩ := hf
  refine v_getf (T := TX0) (ci := 0) 2 dX0_changed_1 q277 rfl in_X0 (Nat.le_of_ble_eq_true rfl) (Or.inl rfl) hh4 hk5 ?_
  refine v_qload_n (r := r_1) (i := 1) dX0_changed_4 rfl rfl ?_
  obtain ⟨a6, rfl⟩ := rv_s hf
  replace hf := rv_e hf
  obtain ⟨w7, fs8, hh9, hf⟩ := hf
  refine V.addK0 ?_
  refine V.addN0 ?_
  refine v_callV (mc := 0) (ms := 0) 1 dX0_changed_5 (m_J3_addLast hG hf) rfl hh9 rfl (lw_V q589 q590 q591 q93 q592) rfl (by decide +kernel) (by decide) rfl (cat_len (Nat.le_of_ble_eq_true rfl)) (kk_V fun h10 hg => ?_) (fun _ _ _ hx => hx.elim)
  replace hf := hg
  clear hg
  refine v_qload_n (r := (some a0)) (i := 0) dX0_changed_8 rfl rfl ?_
  replace hf := gR_e hf
  obtain ⟨w12, fs13, r11, hh14, hk15, hf⟩ := hf
  refine v_getf (T := TX0) (ci := 0) 2 dX0_changed_9 q277 rfl in_X0 (Nat.le_of_ble_eq_true rfl) (Or.inl rfl) hh14 hk15 ?_
  obtain ⟨a16, rfl⟩ := rv_s hf
  replace hf := rv_e hf
  obtain ⟨w17, fs18, hh19, hf⟩ := hf
  refine V.addK0 ?_
  refine V.addN0 ?_
  refine v_callV (mc := 0) (ms := 0) 0 dX0_changed_12 (m_J3_size hG hf) rfl hh19 rfl (lw_V q608 q609 q610 q93 q611) rfl (by decide +kernel) (by decide) rfl (cat_len (Nat.le_of_ble_eq_true rfl)) (kk_I fun i21 h20 hg => ?_) (fun _ _ _ hx => hx.elim)
  replace hf := hg
  clear hg
  refine v_bipush (v := 8) dX0_changed_15 (by decide) ?_
  refine v_icmp_le 28 dX0_changed_17 (by decide) (fun c22 => ?_) (fun c22 => ?_)
  · replace hf := hf.1 c22
    refine v_iload_n (i := 2) dX0_changed_28 rfl rfl ?_
    exact v_iret dX0_changed_29 rfl ⟨_, rfl, hf⟩
  · replace hf := hf.2 c22
    refine v_qload_n (r := (some a0)) (i := 0) dX0_changed_20 rfl rfl ?_
    replace hf := gR_e hf
    obtain ⟨w24, fs25, r23, hh26, hk27, hf⟩ := hf
    refine v_getf (T := TX0) (ci := 0) 2 dX0_changed_21 q277 rfl in_X0 (Nat.le_of_ble_eq_true rfl) (Or.inl rfl) hh26 hk27 ?_
    obtain ⟨a28, rfl⟩ := rv_s hf
    replace hf := rv_e hf
    obtain ⟨w29, fs30, hh31, hf⟩ := hf
    refine V.addK0 ?_
    refine V.addN0 ?_
    refine v_callV (mc := 0) (ms := 0) 0 dX0_changed_24 (m_J3_removeFirst hG hf) rfl hh31 rfl (lw_V q615 q616 q617 q93 q618) rfl (by decide +kernel) (by decide) rfl (cat_len (Nat.le_of_ble_eq_true rfl)) (kk_R fun r33 h32 hg => ?_) (fun _ _ _ hx => hx.elim)
    replace hf := hg
    clear hg
    refine v_pop dX0_changed_27 (rf_cat _) ?_
    refine v_iload_n (i := 2) dX0_changed_28 rfl rfl ?_
    exact v_iret dX0_changed_29 rfl ⟨_, rfl, hf⟩
abbrev Y_X0_refused : Yt := (yX0_refused, some (.int), 1, 40, [])
def f_X0_refused (G : Gt) (h : Hp) (t_0 : Option Nat) (r_1 : Option Nat) (K : Int32 → Hp → Prop) : Prop :=
gI h r_1 4 6 fun i1 =>
pF h t_0 0 3 (.int i1) fun h9 =>
gI h9 r_1 4 7 fun i10 =>
pF h9 t_0 0 4 (.int i10) fun h17 =>
K (-1014 : Int32) h17
theorem m_X0_refused {G : Gt} {h : Hp} {a0 : Nat} {r_1 : Option Nat} {K : Int32 → Hp → Prop} (hG : Base G) (hf : f_X0_refused G h (some a0) r_1 K) : MM G Y_X0_refused cX0_refused 2 0 0 [.ref a0, va_rf r_1] h (kI K) xN := by
  refine mm_of hG (by decide +kernel) rfl (ac_c rfl (ac_c (rf_cat _) ac_nil)) (Nat.le_of_ble_eq_true rfl) (fun E _ _ => ?_)
  show V G E Y_X0_refused cX0_refused 2 (QM G E (kI K) xN) h 0 0 0 [(0, .ref a0), (1, va_rf r_1)] []
  unfold f_X0_refused at hf
  refine v_qload_n (r := (some a0)) (i := 0) dX0_refused_0 rfl rfl ?_
  refine v_qload_n (r := r_1) (i := 1) dX0_refused_1 rfl rfl ?_
  obtain ⟨a2, rfl⟩ := gI_s hf
  replace hf := gI_e hf
  obtain ⟨w3, fs4, i1, hh5, hk6, hf⟩ := hf
  refine v_getfN (T := TX4) (ci := 4) 6 dX0_refused_2 q562 rfl in_X4 (Nat.le_of_ble_eq_true rfl) (Or.inl rfl) hh5 hk6 ?_
  replace hf := pF_e hf
  obtain ⟨fs7, hh8, hf⟩ := hf
  refine v_putf (v := .int i1) (T := TX0) (ci := 0) (ty := .int) 3 dX0_refused_5 q278 rfl in_X0 tyX0 tyX0_ok nmX0 (Nat.le_of_ble_eq_true rfl) (Or.inl rfl) rfl (by decide +kernel) rfl rfl hh8 ?_
  obtain ⟨h9, eh9⟩ : ∃ z, z = hs h a0 (true, .inr (0, fs7.set 3 (.int i1))) := ⟨_, rfl⟩
  try rw [← eh9] at hf
  rw [← eh9]
  refine v_qload_n (r := (some a0)) (i := 0) dX0_refused_8 rfl rfl ?_
  refine v_qload_n (r := (some a2)) (i := 1) dX0_refused_9 rfl rfl ?_
  replace hf := gI_e hf
  obtain ⟨w11, fs12, i10, hh13, hk14, hf⟩ := hf
  refine v_getfN (T := TX4) (ci := 4) 7 dX0_refused_10 q564 rfl in_X4 (Nat.le_of_ble_eq_true rfl) (Or.inl rfl) hh13 hk14 ?_
  replace hf := pF_e hf
  obtain ⟨fs15, hh16, hf⟩ := hf
  refine v_putf (v := .int i10) (T := TX0) (ci := 0) (ty := .int) 4 dX0_refused_13 q279 rfl in_X0 tyX0 tyX0_ok nmX0 (Nat.le_of_ble_eq_true rfl) (Or.inl rfl) rfl (by decide +kernel) rfl rfl hh16 ?_
  obtain ⟨h17, eh17⟩ : ∃ z, z = hs h9 a0 (true, .inr (0, fs15.set 4 (.int i10))) := ⟨_, rfl⟩
  try rw [← eh17] at hf
  rw [← eh17]
  refine v_sipush (v := -1014) dX0_refused_16 (by decide) ?_
  exact v_iret dX0_refused_19 rfl ⟨_, rfl, hf⟩
abbrev Y_X0_room : Yt := (yX0_room, some (.int), 6, 153, [(19, 32, 33, 47)])
def f_X0_room (G : Gt) (h : Hp) (k n : Nat) (t_0 : Option Nat) (i_1 : Int32) (K : Int32 → Hp → Prop) : Prop :=
f_X0_isOil G h i_1 (fun i2 h1 =>
((¬ (i2 = 0) → gR h1 t_0 0 0 fun r4 =>
rv h1 r4 1 (dR G Y_X1_copy cX1_copy 4 [va_rf r4] h1 k n (fun r14 h13 k17 n18 =>
gR h13 t_0 0 0 fun r19 =>
rv h13 r19 1 (f_X1_adds G h13 r19 i_1 (fun i29 h28 =>
rv h28 t_0 0 (f_X0_changed G h28 t_0 r14 i29 (fun i41 h40 =>
K i41 h40))) (fun c30 q31 h28 =>
(c30 = 4 ∧ rv h28 t_0 0 (f_X0_refused G h28 t_0 (some q31) (fun i36 h35 =>
K i36 h35)))))) xN)) ∧
(i2 = 0 → K (-1012 : Int32) h1)))
theorem m_X0_room {G : Gt} {h : Hp} {mc ms : Nat} {a0 : Nat} {i_1 : Int32} {K : Int32 → Hp → Prop} (hG : Base G) (hA : 3 ≤ mc) (hB : 13 ≤ ms) (hf : f_X0_room G h (mc - 3) (ms - 13) (some a0) i_1 K) : MM G Y_X0_room cX0_room 4 mc ms [.ref a0, .int i_1] h (kI K) xN := by
  refine mm_ofH hG (by decide +kernel) rfl (ac_c rfl (ac_c rfl ac_nil)) (Nat.le_of_ble_eq_true rfl) (fun E _ _ => ?_)
  obtain ⟨k, hk9⟩ : ∃ z, z = mc - 3 := ⟨_, rfl⟩
  obtain ⟨n, hn9⟩ : ∃ z, z = ms - 13 := ⟨_, rfl⟩
  rw [← hk9, ← hn9] at hf
  refine V.weak (k' := k + 3) (n' := n + 13) ?_ (by omega) (by omega)
  show V G E Y_X0_room cX0_room 4 (QM G E (kI K) xN) h (k + 3) (n + 13) 0 [(0, .ref a0), (1, .int i_1)] []
  unfold f_X0_room at hf
  refine v_iload_n (i := 1) dX0_room_0 rfl rfl ?_
  refine V.addK0 ?_
  refine V.addN0 ?_
  refine v_callS (mc := 0) (ms := 0) 1 dX0_room_1 (m_X0_isOil hG hf) rfl (lw_S q303 q304 q88 q305) rfl (by decide +kernel) (by decide) rfl (cat_len (Nat.le_of_ble_eq_true rfl)) (kk_I fun i2 h1 hg => ?_) (fun _ _ _ hx => hx.elim)
  replace hf := hg
  clear hg
  refine v_if_ne 11 dX0_room_4 (by decide) (fun c3 => ?_) (fun c3 => ?_)
  · replace hf := hf.1 c3
    refine v_qload_n (r := (some a0)) (i := 0) dX0_room_11 rfl rfl ?_
    replace hf := gR_e hf
    obtain ⟨w5, fs6, r4, hh7, hk8, hf⟩ := hf
    refine v_getf (T := TX0) (ci := 0) 0 dX0_room_12 q275 rfl in_X0 (Nat.le_of_ble_eq_true rfl) (Or.inl rfl) hh7 hk8 ?_
    obtain ⟨a9, rfl⟩ := rv_s hf
    replace hf := rv_e hf
    obtain ⟨w10, fs11, hh12, hf⟩ := hf
    obtain ⟨mc15, ms16, hkmc15, hnms16, hM⟩ := hf
    refine V.weak (k' := ((k - mc15) + 3) + mc15) (n' := ((n - ms16) + 13) + ms16) ?_ (by omega) (by omega)
    refine v_callV 0 dX0_room_15 hM rfl hh12 rfl (lw_V q309 q310 q311 q89 q312) rfl (by decide +kernel) (by decide) rfl (cat_len (Nat.le_of_ble_eq_true rfl)) (kk_R fun r14 h13 hg => ?_) (fun _ _ _ hx => hx.elim)
    have hf := hg
    clear hg
    refine v_qstore_n (i := 2) (r := r14) (lv' := [(0, va_rf (some a0)), (1, .int i_1), (2, va_rf r14)]) dX0_room_18 rfl (Nat.le_of_ble_eq_true rfl) rfl rfl ?_
    refine v_qload_n (r := (some a0)) (i := 0) dX0_room_19 rfl rfl ?_
    refine v_qload_n (r := r14) (i := 2) dX0_room_20 rfl rfl ?_
    refine v_qload_n (r := (some a0)) (i := 0) dX0_room_21 rfl rfl ?_
    replace hf := gR_e hf
    obtain ⟨w20, fs21, r19, hh22, hk23, hf⟩ := hf
    refine v_getf (T := TX0) (ci := 0) 0 dX0_room_22 q275 rfl in_X0 (Nat.le_of_ble_eq_true rfl) (Or.inl rfl) hh22 hk23 ?_
    refine v_iload_n (i := 1) dX0_room_25 rfl rfl ?_
    obtain ⟨a24, rfl⟩ := rv_s hf
    replace hf := rv_e hf
    obtain ⟨w25, fs26, hh27, hf⟩ := hf
    refine v_callV (mc := 3) (ms := 13) 1 dX0_room_26 (m_X1_adds hG hf) rfl hh27 rfl (lw_V q500 q501 q502 q89 q503) rfl (by decide +kernel) (by decide) rfl (cat_len (Nat.le_of_ble_eq_true rfl)) (kk_I fun i29 h28 hg => ?_) (fun c30 q31 h28 hg => ?_)
    · replace hf := hg
      clear hg
      replace hf := rv_e hf
      obtain ⟨w37, fs38, hh39, hf⟩ := hf
      refine V.addK0 ?_
      refine V.addN0 ?_
      refine v_callV (mc := 0) (ms := 0) 2 dX0_room_29 (m_X0_changed hG hf) rfl hh39 rfl (lw_V q585 q587 qs4 q88 q588) rfl (by decide +kernel) (by decide) rfl (cat_len (Nat.le_of_ble_eq_true rfl)) (kk_I fun i41 h40 hg => ?_) (fun _ _ _ hx => hx.elim)
      replace hf := hg
      clear hg
      exact v_iret dX0_room_32 rfl ⟨_, rfl, hf⟩
    · replace hf := hg
      clear hg
      obtain ⟨rfl, hf⟩ := hf
      refine vx_caught [] _ _ rfl (fun _ h => nomatch h) (by decide) (by decide) q302 rfl q516 ?_
      refine v_astore_n (i := 3) (lv' := [(0, va_rf (some a0)), (1, .int i_1), (2, va_rf r14), (3, .ref q31)]) dX0_room_33 rfl (Nat.le_of_ble_eq_true rfl) rfl rfl ?_
      refine v_qload_n (r := (some a0)) (i := 0) dX0_room_34 rfl rfl ?_
      refine v_aload_n (i := 3) dX0_room_35 rfl rfl ?_
      replace hf := rv_e hf
      obtain ⟨w32, fs33, hh34, hf⟩ := hf
      refine V.addK0 ?_
      refine V.addN0 ?_
      refine v_callV (mc := 0) (ms := 0) 1 dX0_room_36 (m_X0_refused hG hf) rfl hh34 rfl (lw_V q626 q628 qs7 q88 q629) rfl (by decide +kernel) (by decide) rfl (cat_len (Nat.le_of_ble_eq_true rfl)) (kk_I fun i36 h35 hg => ?_) (fun _ _ _ hx => hx.elim)
      replace hf := hg
      clear hg
      exact v_iret dX0_room_39 rfl ⟨_, rfl, hf⟩
  · replace hf := hf.2 c3
    refine v_sipush (v := -1012) dX0_room_7 (by decide) ?_
    exact v_iret dX0_room_10 rfl ⟨_, rfl, hf⟩
abbrev Y_X0_door : Yt := (yX0_door, some (.int), 6, 157, [(44, 62, 63, 47)])
def f_X0_door (G : Gt) (h : Hp) (k n : Nat) (t_0 : Option Nat) (i_1 : Int32) (i_2 : Int32) (i_3 : Int32) (i_4 : Int32) (K : Int32 → Hp → Prop) : Prop :=
gR h t_0 0 0 fun r1 =>
rv h r1 1 (f_X1_areRooms G h r1 i_1 i_2 (fun i11 h10 =>
((¬ (i11 = 0) → f_X0_isKind G h10 i_3 (fun i14 h13 =>
((i14 = 0 → K (-1012 : Int32) h13) ∧
(¬ (i14 = 0) → f_X0_isLock G h13 i_4 (fun i17 h16 =>
((¬ (i17 = 0) → gR h16 t_0 0 0 fun r19 =>
rv h16 r19 1 (dR G Y_X1_copy cX1_copy 4 [va_rf r19] h16 k n (fun r29 h28 k32 n33 =>
gR h28 t_0 0 0 fun r34 =>
rv h28 r34 1 (dIx G Y_X1_builds cX1_builds 6 [va_rf r34, .int i_1, .int i_2, .int i_3, .int i_4] h28 k32 n33 (fun i44 h43 k47 n48 =>
rv h43 t_0 0 (f_X0_changed G h43 t_0 r29 i44 (fun i60 h59 =>
K i60 h59))) (fun c49 q50 h43 k47 n48 =>
(c49 = 4 ∧ rv h43 t_0 0 (f_X0_refused G h43 t_0 (some q50) (fun i55 h54 =>
K i55 h54)))))) xN)) ∧
(i17 = 0 → K (-1012 : Int32) h16))))))) ∧
(i11 = 0 → K (-1011 : Int32) h10))))
theorem m_X0_door {G : Gt} {h : Hp} {mc ms : Nat} {a0 : Nat} {i_1 : Int32} {i_2 : Int32} {i_3 : Int32} {i_4 : Int32} {K : Int32 → Hp → Prop} (hG : Base G) (hA : 0 ≤ mc) (hB : 0 ≤ ms) (hf : f_X0_door G h (mc - 0) (ms - 0) (some a0) i_1 i_2 i_3 i_4 K) : MM G Y_X0_door cX0_door 7 mc ms [.ref a0, .int i_1, .int i_2, .int i_3, .int i_4] h (kI K) xN := by
  refine mm_ofH hG (by decide +kernel) rfl (ac_c rfl (ac_c rfl (ac_c rfl (ac_c rfl (ac_c rfl ac_nil))))) (Nat.le_of_ble_eq_true rfl) (fun E _ _ => ?_)
  obtain ⟨k, hk9⟩ : ∃ z, z = mc - 0 := ⟨_, rfl⟩
  obtain ⟨n, hn9⟩ : ∃ z, z = ms - 0 := ⟨_, rfl⟩
  rw [← hk9, ← hn9] at hf
  refine V.weak (k' := k + 0) (n' := n + 0) ?_ (by omega) (by omega)
  show V G E Y_X0_door cX0_door 7 (QM G E (kI K) xN) h (k + 0) (n + 0) 0 [(0, .ref a0), (1, .int i_1), (2, .int i_2), (3, .int i_3), (4, .int i_4)] []
  unfold f_X0_door at hf
  refine v_qload_n (r := (some a0)) (i := 0) dX0_door_0 rfl rfl ?_
  replace hf := gR_e hf
  obtain ⟨w2, fs3, r1, hh4, hk5, hf⟩ := hf
  refine v_getf (T := TX0) (ci := 0) 0 dX0_door_1 q275 rfl in_X0 (Nat.le_of_ble_eq_true rfl) (Or.inl rfl) hh4 hk5 ?_
  refine v_iload_n (i := 1) dX0_door_4 rfl rfl ?_
  refine v_iload_n (i := 2) dX0_door_5 rfl rfl ?_
  obtain ⟨a6, rfl⟩ := rv_s hf
  replace hf := rv_e hf
  obtain ⟨w7, fs8, hh9, hf⟩ := hf
  refine V.addK0 ?_
  refine V.addN0 ?_
  refine v_callV (mc := 0) (ms := 0) 2 dX0_door_6 (m_X1_areRooms hG hf) rfl hh9 rfl (lw_V q634 q635 q636 q89 q637) rfl (by decide +kernel) (by decide) rfl (cat_len (Nat.le_of_ble_eq_true rfl)) (kk_I fun i11 h10 hg => ?_) (fun _ _ _ hx => hx.elim)
  replace hf := hg
  clear hg
  refine v_if_ne 16 dX0_door_9 (by decide) (fun c12 => ?_) (fun c12 => ?_)
  · replace hf := hf.1 c12
    refine v_iload_n (i := 3) dX0_door_16 rfl rfl ?_
    refine V.addK0 ?_
    refine V.addN0 ?_
    refine v_callS (mc := 0) (ms := 0) 1 dX0_door_17 (m_X0_isKind hG hf) rfl (lw_S q643 q644 q88 q645) rfl (by decide +kernel) (by decide) rfl (cat_len (Nat.le_of_ble_eq_true rfl)) (kk_I fun i14 h13 hg => ?_) (fun _ _ _ hx => hx.elim)
    replace hf := hg
    clear hg
    refine v_if_eq 31 dX0_door_20 (by decide) (fun c15 => ?_) (fun c15 => ?_)
    · replace hf := hf.1 c15
      refine v_sipush (v := -1012) dX0_door_31 (by decide) ?_
      exact v_iret dX0_door_34 rfl ⟨_, rfl, hf⟩
    · replace hf := hf.2 c15
      refine v_iload (i := 4) dX0_door_23 rfl ?_
      refine V.addK0 ?_
      refine V.addN0 ?_
      refine v_callS (mc := 0) (ms := 0) 1 dX0_door_25 (m_X0_isLock hG hf) rfl (lw_S q646 q647 q88 q648) rfl (by decide +kernel) (by decide) rfl (cat_len (Nat.le_of_ble_eq_true rfl)) (kk_I fun i17 h16 hg => ?_) (fun _ _ _ hx => hx.elim)
      replace hf := hg
      clear hg
      refine v_if_ne 35 dX0_door_28 (by decide) (fun c18 => ?_) (fun c18 => ?_)
      · replace hf := hf.1 c18
        refine v_qload_n (r := (some a0)) (i := 0) dX0_door_35 rfl rfl ?_
        replace hf := gR_e hf
        obtain ⟨w20, fs21, r19, hh22, hk23, hf⟩ := hf
        refine v_getf (T := TX0) (ci := 0) 0 dX0_door_36 q275 rfl in_X0 (Nat.le_of_ble_eq_true rfl) (Or.inl rfl) hh22 hk23 ?_
        obtain ⟨a24, rfl⟩ := rv_s hf
        replace hf := rv_e hf
        obtain ⟨w25, fs26, hh27, hf⟩ := hf
        obtain ⟨mc30, ms31, hkmc30, hnms31, hM⟩ := hf
        refine V.weak (k' := ((k - mc30) + 0) + mc30) (n' := ((n - ms31) + 0) + ms31) ?_ (by omega) (by omega)
        refine v_callV 0 dX0_door_39 hM rfl hh27 rfl (lw_V q309 q310 q311 q89 q312) rfl (by decide +kernel) (by decide) rfl (cat_len (Nat.le_of_ble_eq_true rfl)) (kk_R fun r29 h28 hg => ?_) (fun _ _ _ hx => hx.elim)
        have hf := hg
        clear hg
        refine v_qstore (i := 5) (r := r29) (lv' := [(0, va_rf (some a0)), (1, .int i_1), (2, .int i_2), (3, .int i_3), (4, .int i_4), (5, va_rf r29)]) dX0_door_42 (Nat.le_of_ble_eq_true rfl) rfl rfl ?_
        refine v_qload_n (r := (some a0)) (i := 0) dX0_door_44 rfl rfl ?_
        refine v_qload (r := r29) (i := 5) dX0_door_45 rfl ?_
        refine v_qload_n (r := (some a0)) (i := 0) dX0_door_47 rfl rfl ?_
        replace hf := gR_e hf
        obtain ⟨w35, fs36, r34, hh37, hk38, hf⟩ := hf
        refine v_getf (T := TX0) (ci := 0) 0 dX0_door_48 q275 rfl in_X0 (Nat.le_of_ble_eq_true rfl) (Or.inl rfl) hh37 hk38 ?_
        refine v_iload_n (i := 1) dX0_door_51 rfl rfl ?_
        refine v_iload_n (i := 2) dX0_door_52 rfl rfl ?_
        refine v_iload_n (i := 3) dX0_door_53 rfl rfl ?_
        refine v_iload (i := 4) dX0_door_54 rfl ?_
        obtain ⟨a39, rfl⟩ := rv_s hf
        replace hf := rv_e hf
        obtain ⟨w40, fs41, hh42, hf⟩ := hf
        obtain ⟨mc45, ms46, hkmc45, hnms46, hM⟩ := hf
        refine V.weak (k' := (((k - mc30) - mc45) + 0) + mc45) (n' := (((n - ms31) - ms46) + 0) + ms46) ?_ (by omega) (by omega)
        refine v_callV 4 dX0_door_56 hM rfl hh42 rfl (lw_V q652 q653 q654 q89 q655) rfl (by decide +kernel) (by decide) rfl (cat_len (Nat.le_of_ble_eq_true rfl)) (kk_I fun i44 h43 hg => ?_) (fun c49 q50 h43 hg => ?_)
        · have hf := hg
          clear hg
          replace hf := rv_e hf
          obtain ⟨w56, fs57, hh58, hf⟩ := hf
          refine V.addK0 ?_
          refine V.addN0 ?_
          refine v_callV (mc := 0) (ms := 0) 2 dX0_door_59 (m_X0_changed hG hf) rfl hh58 rfl (lw_V q585 q587 qs4 q88 q588) rfl (by decide +kernel) (by decide) rfl (cat_len (Nat.le_of_ble_eq_true rfl)) (kk_I fun i60 h59 hg => ?_) (fun _ _ _ hx => hx.elim)
          replace hf := hg
          clear hg
          exact v_iret dX0_door_62 rfl ⟨_, rfl, hf⟩
        · have hf := hg
          clear hg
          obtain ⟨rfl, hf⟩ := hf
          refine vx_caught [] _ _ rfl (fun _ h => nomatch h) (by decide) (by decide) q302 rfl q516 ?_
          refine v_astore (i := 6) (lv' := [(0, va_rf (some a0)), (1, .int i_1), (2, .int i_2), (3, .int i_3), (4, .int i_4), (5, va_rf r29), (6, .ref q50)]) dX0_door_63 (Nat.le_of_ble_eq_true rfl) rfl rfl ?_
          refine v_qload_n (r := (some a0)) (i := 0) dX0_door_65 rfl rfl ?_
          refine v_aload (i := 6) dX0_door_66 rfl ?_
          replace hf := rv_e hf
          obtain ⟨w51, fs52, hh53, hf⟩ := hf
          refine V.addK0 ?_
          refine V.addN0 ?_
          refine v_callV (mc := 0) (ms := 0) 1 dX0_door_68 (m_X0_refused hG hf) rfl hh53 rfl (lw_V q626 q628 qs7 q88 q629) rfl (by decide +kernel) (by decide) rfl (cat_len (Nat.le_of_ble_eq_true rfl)) (kk_I fun i55 h54 hg => ?_) (fun _ _ _ hx => hx.elim)
          replace hf := hg
          clear hg
          exact v_iret dX0_door_71 rfl ⟨_, rfl, hf⟩
      · replace hf := hf.2 c18
        refine v_sipush (v := -1012) dX0_door_31 (by decide) ?_
        exact v_iret dX0_door_34 rfl ⟨_, rfl, hf⟩
  · replace hf := hf.2 c12
    refine v_sipush (v := -1011) dX0_door_12 (by decide) ?_
    exact v_iret dX0_door_15 rfl ⟨_, rfl, hf⟩
abbrev Y_X0_key : Yt := (yX0_key, some (.int), 6, 155, [(34, 48, 49, 47)])
def f_X0_key (G : Gt) (h : Hp) (k n : Nat) (t_0 : Option Nat) (i_1 : Int32) (i_2 : Int32) (K : Int32 → Hp → Prop) : Prop :=
gR h t_0 0 0 fun r1 =>
rv h r1 1 (f_X1_isRoom G h r1 i_1 (fun i11 h10 =>
((¬ (i11 = 0) → f_X0_isColour G h10 i_2 (fun i14 h13 =>
((¬ (i14 = 0) → gR h13 t_0 0 0 fun r16 =>
rv h13 r16 1 (dR G Y_X1_copy cX1_copy 4 [va_rf r16] h13 k n (fun r26 h25 k29 n30 =>
gR h25 t_0 0 0 fun r31 =>
rv h25 r31 1 (f_X1_lays G h25 r31 i_1 i_2 (fun i41 h40 =>
rv h40 t_0 0 (f_X0_changed G h40 t_0 r26 i41 (fun i53 h52 =>
K i53 h52))) (fun c42 q43 h40 =>
(c42 = 4 ∧ rv h40 t_0 0 (f_X0_refused G h40 t_0 (some q43) (fun i48 h47 =>
K i48 h47)))))) xN)) ∧
(i14 = 0 → K (-1012 : Int32) h13)))) ∧
(i11 = 0 → K (-1011 : Int32) h10))))
theorem m_X0_key {G : Gt} {h : Hp} {mc ms : Nat} {a0 : Nat} {i_1 : Int32} {i_2 : Int32} {K : Int32 → Hp → Prop} (hG : Base G) (hA : 1 ≤ mc) (hB : 8 ≤ ms) (hf : f_X0_key G h (mc - 1) (ms - 8) (some a0) i_1 i_2 K) : MM G Y_X0_key cX0_key 5 mc ms [.ref a0, .int i_1, .int i_2] h (kI K) xN := by
  refine mm_ofH hG (by decide +kernel) rfl (ac_c rfl (ac_c rfl (ac_c rfl ac_nil))) (Nat.le_of_ble_eq_true rfl) (fun E _ _ => ?_)
  obtain ⟨k, hk9⟩ : ∃ z, z = mc - 1 := ⟨_, rfl⟩
  obtain ⟨n, hn9⟩ : ∃ z, z = ms - 8 := ⟨_, rfl⟩
  rw [← hk9, ← hn9] at hf
  refine V.weak (k' := k + 1) (n' := n + 8) ?_ (by omega) (by omega)
  show V G E Y_X0_key cX0_key 5 (QM G E (kI K) xN) h (k + 1) (n + 8) 0 [(0, .ref a0), (1, .int i_1), (2, .int i_2)] []
  unfold f_X0_key at hf
  refine v_qload_n (r := (some a0)) (i := 0) dX0_key_0 rfl rfl ?_
  replace hf := gR_e hf
  obtain ⟨w2, fs3, r1, hh4, hk5, hf⟩ := hf
  refine v_getf (T := TX0) (ci := 0) 0 dX0_key_1 q275 rfl in_X0 (Nat.le_of_ble_eq_true rfl) (Or.inl rfl) hh4 hk5 ?_
  refine v_iload_n (i := 1) dX0_key_4 rfl rfl ?_
  obtain ⟨a6, rfl⟩ := rv_s hf
  replace hf := rv_e hf
  obtain ⟨w7, fs8, hh9, hf⟩ := hf
  refine V.addK0 ?_
  refine V.addN0 ?_
  refine v_callV (mc := 0) (ms := 0) 1 dX0_key_5 (m_X1_isRoom hG hf) rfl hh9 rfl (lw_V q719 q639 q640 q89 q641) rfl (by decide +kernel) (by decide) rfl (cat_len (Nat.le_of_ble_eq_true rfl)) (kk_I fun i11 h10 hg => ?_) (fun _ _ _ hx => hx.elim)
  replace hf := hg
  clear hg
  refine v_if_ne 15 dX0_key_8 (by decide) (fun c12 => ?_) (fun c12 => ?_)
  · replace hf := hf.1 c12
    refine v_iload_n (i := 2) dX0_key_15 rfl rfl ?_
    refine V.addK0 ?_
    refine V.addN0 ?_
    refine v_callS (mc := 0) (ms := 0) 1 dX0_key_16 (m_X0_isColour hG hf) rfl (lw_S q649 q650 q88 q651) rfl (by decide +kernel) (by decide) rfl (cat_len (Nat.le_of_ble_eq_true rfl)) (kk_I fun i14 h13 hg => ?_) (fun _ _ _ hx => hx.elim)
    replace hf := hg
    clear hg
    refine v_if_ne 26 dX0_key_19 (by decide) (fun c15 => ?_) (fun c15 => ?_)
    · replace hf := hf.1 c15
      refine v_qload_n (r := (some a0)) (i := 0) dX0_key_26 rfl rfl ?_
      replace hf := gR_e hf
      obtain ⟨w17, fs18, r16, hh19, hk20, hf⟩ := hf
      refine v_getf (T := TX0) (ci := 0) 0 dX0_key_27 q275 rfl in_X0 (Nat.le_of_ble_eq_true rfl) (Or.inl rfl) hh19 hk20 ?_
      obtain ⟨a21, rfl⟩ := rv_s hf
      replace hf := rv_e hf
      obtain ⟨w22, fs23, hh24, hf⟩ := hf
      obtain ⟨mc27, ms28, hkmc27, hnms28, hM⟩ := hf
      refine V.weak (k' := ((k - mc27) + 1) + mc27) (n' := ((n - ms28) + 8) + ms28) ?_ (by omega) (by omega)
      refine v_callV 0 dX0_key_30 hM rfl hh24 rfl (lw_V q309 q310 q311 q89 q312) rfl (by decide +kernel) (by decide) rfl (cat_len (Nat.le_of_ble_eq_true rfl)) (kk_R fun r26 h25 hg => ?_) (fun _ _ _ hx => hx.elim)
      have hf := hg
      clear hg
      refine v_qstore_n (i := 3) (r := r26) (lv' := [(0, va_rf (some a0)), (1, .int i_1), (2, .int i_2), (3, va_rf r26)]) dX0_key_33 rfl (Nat.le_of_ble_eq_true rfl) rfl rfl ?_
      refine v_qload_n (r := (some a0)) (i := 0) dX0_key_34 rfl rfl ?_
      refine v_qload_n (r := r26) (i := 3) dX0_key_35 rfl rfl ?_
      refine v_qload_n (r := (some a0)) (i := 0) dX0_key_36 rfl rfl ?_
      replace hf := gR_e hf
      obtain ⟨w32, fs33, r31, hh34, hk35, hf⟩ := hf
      refine v_getf (T := TX0) (ci := 0) 0 dX0_key_37 q275 rfl in_X0 (Nat.le_of_ble_eq_true rfl) (Or.inl rfl) hh34 hk35 ?_
      refine v_iload_n (i := 1) dX0_key_40 rfl rfl ?_
      refine v_iload_n (i := 2) dX0_key_41 rfl rfl ?_
      obtain ⟨a36, rfl⟩ := rv_s hf
      replace hf := rv_e hf
      obtain ⟨w37, fs38, hh39, hf⟩ := hf
      refine v_callV (mc := 1) (ms := 8) 2 dX0_key_42 (m_X1_lays hG hf) rfl hh39 rfl (lw_V q720 q721 q722 q89 q723) rfl (by decide +kernel) (by decide) rfl (cat_len (Nat.le_of_ble_eq_true rfl)) (kk_I fun i41 h40 hg => ?_) (fun c42 q43 h40 hg => ?_)
      · replace hf := hg
        clear hg
        replace hf := rv_e hf
        obtain ⟨w49, fs50, hh51, hf⟩ := hf
        refine V.addK0 ?_
        refine V.addN0 ?_
        refine v_callV (mc := 0) (ms := 0) 2 dX0_key_45 (m_X0_changed hG hf) rfl hh51 rfl (lw_V q585 q587 qs4 q88 q588) rfl (by decide +kernel) (by decide) rfl (cat_len (Nat.le_of_ble_eq_true rfl)) (kk_I fun i53 h52 hg => ?_) (fun _ _ _ hx => hx.elim)
        replace hf := hg
        clear hg
        exact v_iret dX0_key_48 rfl ⟨_, rfl, hf⟩
      · replace hf := hg
        clear hg
        obtain ⟨rfl, hf⟩ := hf
        refine vx_caught [] _ _ rfl (fun _ h => nomatch h) (by decide) (by decide) q302 rfl q516 ?_
        refine v_astore (i := 4) (lv' := [(0, va_rf (some a0)), (1, .int i_1), (2, .int i_2), (3, va_rf r26), (4, .ref q43)]) dX0_key_49 (Nat.le_of_ble_eq_true rfl) rfl rfl ?_
        refine v_qload_n (r := (some a0)) (i := 0) dX0_key_51 rfl rfl ?_
        refine v_aload (i := 4) dX0_key_52 rfl ?_
        replace hf := rv_e hf
        obtain ⟨w44, fs45, hh46, hf⟩ := hf
        refine V.addK0 ?_
        refine V.addN0 ?_
        refine v_callV (mc := 0) (ms := 0) 1 dX0_key_54 (m_X0_refused hG hf) rfl hh46 rfl (lw_V q626 q628 qs7 q88 q629) rfl (by decide +kernel) (by decide) rfl (cat_len (Nat.le_of_ble_eq_true rfl)) (kk_I fun i48 h47 hg => ?_) (fun _ _ _ hx => hx.elim)
        replace hf := hg
        clear hg
        exact v_iret dX0_key_57 rfl ⟨_, rfl, hf⟩
    · replace hf := hf.2 c15
      refine v_sipush (v := -1012) dX0_key_22 (by decide) ?_
      exact v_iret dX0_key_25 rfl ⟨_, rfl, hf⟩
  · replace hf := hf.2 c12
    refine v_sipush (v := -1011) dX0_key_11 (by decide) ?_
    exact v_iret dX0_key_14 rfl ⟨_, rfl, hf⟩
abbrev Y_X0_oil : Yt := (yX0_oil, some (.int), 6, 155, [(37, 51, 52, 47)])
def f_X0_oil (G : Gt) (h : Hp) (k n : Nat) (t_0 : Option Nat) (i_1 : Int32) (i_2 : Int32) (K : Int32 → Hp → Prop) : Prop :=
gR h t_0 0 0 fun r1 =>
rv h r1 1 (f_X1_isRoom G h r1 i_1 (fun i11 h10 =>
((¬ (i11 = 0) → f_X0_isIn G h10 i_2 (1 : Int32) (50 : Int32) (fun i14 h13 =>
((¬ (i14 = 0) → gR h13 t_0 0 0 fun r16 =>
rv h13 r16 1 (dR G Y_X1_copy cX1_copy 4 [va_rf r16] h13 k n (fun r26 h25 k29 n30 =>
gR h25 t_0 0 0 fun r31 =>
rv h25 r31 1 (f_X1_oils G h25 r31 i_1 i_2 (fun i41 h40 =>
rv h40 t_0 0 (f_X0_changed G h40 t_0 r26 i41 (fun i53 h52 =>
K i53 h52))) (fun c42 q43 h40 =>
(c42 = 4 ∧ rv h40 t_0 0 (f_X0_refused G h40 t_0 (some q43) (fun i48 h47 =>
K i48 h47)))))) xN)) ∧
(i14 = 0 → K (-1012 : Int32) h13)))) ∧
(i11 = 0 → K (-1011 : Int32) h10))))
theorem m_X0_oil {G : Gt} {h : Hp} {mc ms : Nat} {a0 : Nat} {i_1 : Int32} {i_2 : Int32} {K : Int32 → Hp → Prop} (hG : Base G) (hA : 1 ≤ mc) (hB : 8 ≤ ms) (hf : f_X0_oil G h (mc - 1) (ms - 8) (some a0) i_1 i_2 K) : MM G Y_X0_oil cX0_oil 5 mc ms [.ref a0, .int i_1, .int i_2] h (kI K) xN := by
  refine mm_ofH hG (by decide +kernel) rfl (ac_c rfl (ac_c rfl (ac_c rfl ac_nil))) (Nat.le_of_ble_eq_true rfl) (fun E _ _ => ?_)
  obtain ⟨k, hk9⟩ : ∃ z, z = mc - 1 := ⟨_, rfl⟩
  obtain ⟨n, hn9⟩ : ∃ z, z = ms - 8 := ⟨_, rfl⟩
  rw [← hk9, ← hn9] at hf
  refine V.weak (k' := k + 1) (n' := n + 8) ?_ (by omega) (by omega)
  show V G E Y_X0_oil cX0_oil 5 (QM G E (kI K) xN) h (k + 1) (n + 8) 0 [(0, .ref a0), (1, .int i_1), (2, .int i_2)] []
  unfold f_X0_oil at hf
  refine v_qload_n (r := (some a0)) (i := 0) dX0_oil_0 rfl rfl ?_
  replace hf := gR_e hf
  obtain ⟨w2, fs3, r1, hh4, hk5, hf⟩ := hf
  refine v_getf (T := TX0) (ci := 0) 0 dX0_oil_1 q275 rfl in_X0 (Nat.le_of_ble_eq_true rfl) (Or.inl rfl) hh4 hk5 ?_
  refine v_iload_n (i := 1) dX0_oil_4 rfl rfl ?_
  obtain ⟨a6, rfl⟩ := rv_s hf
  replace hf := rv_e hf
  obtain ⟨w7, fs8, hh9, hf⟩ := hf
  refine V.addK0 ?_
  refine V.addN0 ?_
  refine v_callV (mc := 0) (ms := 0) 1 dX0_oil_5 (m_X1_isRoom hG hf) rfl hh9 rfl (lw_V q719 q639 q640 q89 q641) rfl (by decide +kernel) (by decide) rfl (cat_len (Nat.le_of_ble_eq_true rfl)) (kk_I fun i11 h10 hg => ?_) (fun _ _ _ hx => hx.elim)
  replace hf := hg
  clear hg
  refine v_if_ne 15 dX0_oil_8 (by decide) (fun c12 => ?_) (fun c12 => ?_)
  · replace hf := hf.1 c12
    refine v_iload_n (i := 2) dX0_oil_15 rfl rfl ?_
    refine v_iconst (v := 1) dX0_oil_16 (by decide) ?_
    refine v_bipush (v := 50) dX0_oil_17 (by decide) ?_
    refine V.addK0 ?_
    refine V.addN0 ?_
    refine v_callS (mc := 0) (ms := 0) 3 dX0_oil_19 (m_X0_isIn hG hf) rfl (lw_S q306 q307 q88 q308) rfl (by decide +kernel) (by decide) rfl (cat_len (Nat.le_of_ble_eq_true rfl)) (kk_I fun i14 h13 hg => ?_) (fun _ _ _ hx => hx.elim)
    replace hf := hg
    clear hg
    refine v_if_ne 29 dX0_oil_22 (by decide) (fun c15 => ?_) (fun c15 => ?_)
    · replace hf := hf.1 c15
      refine v_qload_n (r := (some a0)) (i := 0) dX0_oil_29 rfl rfl ?_
      replace hf := gR_e hf
      obtain ⟨w17, fs18, r16, hh19, hk20, hf⟩ := hf
      refine v_getf (T := TX0) (ci := 0) 0 dX0_oil_30 q275 rfl in_X0 (Nat.le_of_ble_eq_true rfl) (Or.inl rfl) hh19 hk20 ?_
      obtain ⟨a21, rfl⟩ := rv_s hf
      replace hf := rv_e hf
      obtain ⟨w22, fs23, hh24, hf⟩ := hf
      obtain ⟨mc27, ms28, hkmc27, hnms28, hM⟩ := hf
      refine V.weak (k' := ((k - mc27) + 1) + mc27) (n' := ((n - ms28) + 8) + ms28) ?_ (by omega) (by omega)
      refine v_callV 0 dX0_oil_33 hM rfl hh24 rfl (lw_V q309 q310 q311 q89 q312) rfl (by decide +kernel) (by decide) rfl (cat_len (Nat.le_of_ble_eq_true rfl)) (kk_R fun r26 h25 hg => ?_) (fun _ _ _ hx => hx.elim)
      have hf := hg
      clear hg
      refine v_qstore_n (i := 3) (r := r26) (lv' := [(0, va_rf (some a0)), (1, .int i_1), (2, .int i_2), (3, va_rf r26)]) dX0_oil_36 rfl (Nat.le_of_ble_eq_true rfl) rfl rfl ?_
      refine v_qload_n (r := (some a0)) (i := 0) dX0_oil_37 rfl rfl ?_
      refine v_qload_n (r := r26) (i := 3) dX0_oil_38 rfl rfl ?_
      refine v_qload_n (r := (some a0)) (i := 0) dX0_oil_39 rfl rfl ?_
      replace hf := gR_e hf
      obtain ⟨w32, fs33, r31, hh34, hk35, hf⟩ := hf
      refine v_getf (T := TX0) (ci := 0) 0 dX0_oil_40 q275 rfl in_X0 (Nat.le_of_ble_eq_true rfl) (Or.inl rfl) hh34 hk35 ?_
      refine v_iload_n (i := 1) dX0_oil_43 rfl rfl ?_
      refine v_iload_n (i := 2) dX0_oil_44 rfl rfl ?_
      obtain ⟨a36, rfl⟩ := rv_s hf
      replace hf := rv_e hf
      obtain ⟨w37, fs38, hh39, hf⟩ := hf
      refine v_callV (mc := 1) (ms := 8) 2 dX0_oil_45 (m_X1_oils hG hf) rfl hh39 rfl (lw_V q728 q729 q730 q89 q731) rfl (by decide +kernel) (by decide) rfl (cat_len (Nat.le_of_ble_eq_true rfl)) (kk_I fun i41 h40 hg => ?_) (fun c42 q43 h40 hg => ?_)
      · replace hf := hg
        clear hg
        replace hf := rv_e hf
        obtain ⟨w49, fs50, hh51, hf⟩ := hf
        refine V.addK0 ?_
        refine V.addN0 ?_
        refine v_callV (mc := 0) (ms := 0) 2 dX0_oil_48 (m_X0_changed hG hf) rfl hh51 rfl (lw_V q585 q587 qs4 q88 q588) rfl (by decide +kernel) (by decide) rfl (cat_len (Nat.le_of_ble_eq_true rfl)) (kk_I fun i53 h52 hg => ?_) (fun _ _ _ hx => hx.elim)
        replace hf := hg
        clear hg
        exact v_iret dX0_oil_51 rfl ⟨_, rfl, hf⟩
      · replace hf := hg
        clear hg
        obtain ⟨rfl, hf⟩ := hf
        refine vx_caught [] _ _ rfl (fun _ h => nomatch h) (by decide) (by decide) q302 rfl q516 ?_
        refine v_astore (i := 4) (lv' := [(0, va_rf (some a0)), (1, .int i_1), (2, .int i_2), (3, va_rf r26), (4, .ref q43)]) dX0_oil_52 (Nat.le_of_ble_eq_true rfl) rfl rfl ?_
        refine v_qload_n (r := (some a0)) (i := 0) dX0_oil_54 rfl rfl ?_
        refine v_aload (i := 4) dX0_oil_55 rfl ?_
        replace hf := rv_e hf
        obtain ⟨w44, fs45, hh46, hf⟩ := hf
        refine V.addK0 ?_
        refine V.addN0 ?_
        refine v_callV (mc := 0) (ms := 0) 1 dX0_oil_57 (m_X0_refused hG hf) rfl hh46 rfl (lw_V q626 q628 qs7 q88 q629) rfl (by decide +kernel) (by decide) rfl (cat_len (Nat.le_of_ble_eq_true rfl)) (kk_I fun i48 h47 hg => ?_) (fun _ _ _ hx => hx.elim)
        replace hf := hg
        clear hg
        exact v_iret dX0_oil_60 rfl ⟨_, rfl, hf⟩
    · replace hf := hf.2 c15
      refine v_sipush (v := -1012) dX0_oil_25 (by decide) ?_
      exact v_iret dX0_oil_28 rfl ⟨_, rfl, hf⟩
  · replace hf := hf.2 c12
    refine v_sipush (v := -1011) dX0_oil_11 (by decide) ?_
    exact v_iret dX0_oil_14 rfl ⟨_, rfl, hf⟩
abbrev Y_X0_roomOf : Yt := (yX0_roomOf, some (.int), 9, 243, [])
def f_X0_roomOf (G : Gt) (h : Hp) (k n : Nat) (t_0 : Option Nat) (i_1 : Int32) (i_2 : Int32) (K : Int32 → Hp → Prop) : Prop :=
gR h t_0 0 0 fun r1 =>
rv h r1 1 (f_X1_isRoom G h r1 i_1 (fun i11 h10 =>
((i11 = 0 → K (-1011 : Int32) h10) ∧
(¬ (i11 = 0) → gR h10 t_0 0 0 fun r13 =>
rv h10 r13 1 (dI G Y_X1_ofRoom cX1_ofRoom 4 [va_rf r13, .int i_1, .int i_2] h10 k n (fun i23 h22 k26 n27 =>
K i23 h22) xN)))))
theorem m_X0_roomOf {G : Gt} {h : Hp} {mc ms : Nat} {a0 : Nat} {i_1 : Int32} {i_2 : Int32} {K : Int32 → Hp → Prop} (hG : Base G) (hA : 0 ≤ mc) (hB : 0 ≤ ms) (hf : f_X0_roomOf G h (mc - 0) (ms - 0) (some a0) i_1 i_2 K) : MM G Y_X0_roomOf cX0_roomOf 3 mc ms [.ref a0, .int i_1, .int i_2] h (kI K) xN := by
  refine mm_of hG (by decide +kernel) rfl (ac_c rfl (ac_c rfl (ac_c rfl ac_nil))) (Nat.le_of_ble_eq_true rfl) (fun E _ _ => ?_)
  obtain ⟨k, hk9⟩ : ∃ z, z = mc - 0 := ⟨_, rfl⟩
  obtain ⟨n, hn9⟩ : ∃ z, z = ms - 0 := ⟨_, rfl⟩
  rw [← hk9, ← hn9] at hf
  refine V.weak (k' := k + 0) (n' := n + 0) ?_ (by omega) (by omega)
  show V G E Y_X0_roomOf cX0_roomOf 3 (QM G E (kI K) xN) h (k + 0) (n + 0) 0 [(0, .ref a0), (1, .int i_1), (2, .int i_2)] []
  unfold f_X0_roomOf at hf
  refine v_qload_n (r := (some a0)) (i := 0) dX0_roomOf_0 rfl rfl ?_
  replace hf := gR_e hf
  obtain ⟨w2, fs3, r1, hh4, hk5, hf⟩ := hf
  refine v_getf (T := TX0) (ci := 0) 0 dX0_roomOf_1 q275 rfl in_X0 (Nat.le_of_ble_eq_true rfl) (Or.inl rfl) hh4 hk5 ?_
  refine v_iload_n (i := 1) dX0_roomOf_4 rfl rfl ?_
  obtain ⟨a6, rfl⟩ := rv_s hf
  replace hf := rv_e hf
  obtain ⟨w7, fs8, hh9, hf⟩ := hf
  refine V.addK0 ?_
  refine V.addN0 ?_
  refine v_callV (mc := 0) (ms := 0) 1 dX0_roomOf_5 (m_X1_isRoom hG hf) rfl hh9 rfl (lw_V q719 q639 q640 q89 q641) rfl (by decide +kernel) (by decide) rfl (cat_len (Nat.le_of_ble_eq_true rfl)) (kk_I fun i11 h10 hg => ?_) (fun _ _ _ hx => hx.elim)
  replace hf := hg
  clear hg
  refine v_if_eq 23 dX0_roomOf_8 (by decide) (fun c12 => ?_) (fun c12 => ?_)
  · replace hf := hf.1 c12
    refine v_sipush (v := -1011) dX0_roomOf_23 (by decide) ?_
    exact v_iret dX0_roomOf_26 rfl ⟨_, rfl, hf⟩
  · replace hf := hf.2 c12
    refine v_qload_n (r := (some a0)) (i := 0) dX0_roomOf_11 rfl rfl ?_
    replace hf := gR_e hf
    obtain ⟨w14, fs15, r13, hh16, hk17, hf⟩ := hf
    refine v_getf (T := TX0) (ci := 0) 0 dX0_roomOf_12 q275 rfl in_X0 (Nat.le_of_ble_eq_true rfl) (Or.inl rfl) hh16 hk17 ?_
    refine v_iload_n (i := 1) dX0_roomOf_15 rfl rfl ?_
    refine v_iload_n (i := 2) dX0_roomOf_16 rfl rfl ?_
    obtain ⟨a18, rfl⟩ := rv_s hf
    replace hf := rv_e hf
    obtain ⟨w19, fs20, hh21, hf⟩ := hf
    obtain ⟨mc24, ms25, hkmc24, hnms25, hM⟩ := hf
    refine V.weak (k' := ((k - mc24) + 0) + mc24) (n' := ((n - ms25) + 0) + ms25) ?_ (by omega) (by omega)
    refine v_callV 2 dX0_roomOf_17 hM rfl hh21 rfl (lw_V q736 q737 q738 q89 q739) rfl (by decide +kernel) (by decide) rfl (cat_len (Nat.le_of_ble_eq_true rfl)) (kk_I fun i23 h22 hg => ?_) (fun _ _ _ hx => hx.elim)
    have hf := hg
    clear hg
    refine v_goto 26 dX0_roomOf_20 (by decide) ?_
    exact v_iret dX0_roomOf_26 rfl ⟨_, rfl, hf⟩
abbrev Y_X0_doorOf : Yt := (yX0_doorOf, some (.int), 4, 104, [])
def f_X0_doorOf (G : Gt) (h : Hp) (t_0 : Option Nat) (i_1 : Int32) (i_2 : Int32) (K : Int32 → Hp → Prop) : Prop :=
gR h t_0 0 0 fun r1 =>
rv h r1 1 (f_X1_isDoor G h r1 i_1 (fun i11 h10 =>
((i11 = 0 → K (-1011 : Int32) h10) ∧
(¬ (i11 = 0) → gR h10 t_0 0 0 fun r13 =>
gR h10 r13 1 1 fun r18 =>
rv h10 r18 10 (f_J2_get G h10 r18 i_1 (fun r29 h28 =>
(oc h28 r29 5 ∧ rv h28 r29 5 (f_X5_of G h28 r29 i_2 (fun i35 h34 =>
K i35 h34)))))))))
theorem m_X0_doorOf {G : Gt} {h : Hp} {a0 : Nat} {i_1 : Int32} {i_2 : Int32} {K : Int32 → Hp → Prop} (hG : Base G) (hf : f_X0_doorOf G h (some a0) i_1 i_2 K) : MM G Y_X0_doorOf cX0_doorOf 3 0 0 [.ref a0, .int i_1, .int i_2] h (kI K) xN := by
  refine mm_of hG (by decide +kernel) rfl (ac_c rfl (ac_c rfl (ac_c rfl ac_nil))) (Nat.le_of_ble_eq_true rfl) (fun E _ _ => ?_)
  show V G E Y_X0_doorOf cX0_doorOf 3 (QM G E (kI K) xN) h 0 0 0 [(0, .ref a0), (1, .int i_1), (2, .int i_2)] []
  unfold f_X0_doorOf at hf
  refine v_qload_n (r := (some a0)) (i := 0) dX0_doorOf_0 rfl rfl ?_
  replace hf := gR_e hf
  obtain ⟨w2, fs3, r1, hh4, hk5, hf⟩ := hf
  refine v_getf (T := TX0) (ci := 0) 0 dX0_doorOf_1 q275 rfl in_X0 (Nat.le_of_ble_eq_true rfl) (Or.inl rfl) hh4 hk5 ?_
  refine v_iload_n (i := 1) dX0_doorOf_4 rfl rfl ?_
  obtain ⟨a6, rfl⟩ := rv_s hf
  replace hf := rv_e hf
  obtain ⟨w7, fs8, hh9, hf⟩ := hf
  refine V.addK0 ?_
  refine V.addN0 ?_
  refine v_callV (mc := 0) (ms := 0) 1 dX0_doorOf_5 (m_X1_isDoor hG hf) rfl hh9 rfl (lw_V q1666 q1667 q1668 q89 q1669) rfl (by decide +kernel) (by decide) rfl (cat_len (Nat.le_of_ble_eq_true rfl)) (kk_I fun i11 h10 hg => ?_) (fun _ _ _ hx => hx.elim)
  replace hf := hg
  clear hg
  refine v_if_eq 32 dX0_doorOf_8 (by decide) (fun c12 => ?_) (fun c12 => ?_)
  · replace hf := hf.1 c12
    refine v_sipush (v := -1011) dX0_doorOf_32 (by decide) ?_
    exact v_iret dX0_doorOf_35 rfl ⟨_, rfl, hf⟩
  · replace hf := hf.2 c12
    refine v_qload_n (r := (some a0)) (i := 0) dX0_doorOf_11 rfl rfl ?_
    replace hf := gR_e hf
    obtain ⟨w14, fs15, r13, hh16, hk17, hf⟩ := hf
    refine v_getf (T := TX0) (ci := 0) 0 dX0_doorOf_12 q275 rfl in_X0 (Nat.le_of_ble_eq_true rfl) (Or.inl rfl) hh16 hk17 ?_
    obtain ⟨a19, rfl⟩ := gR_s hf
    replace hf := gR_e hf
    obtain ⟨w20, fs21, r18, hh22, hk23, hf⟩ := hf
    refine v_getfN (T := TX1) (ci := 1) 1 dX0_doorOf_15 q191 rfl in_X1 (Nat.le_of_ble_eq_true rfl) (Or.inl rfl) hh22 hk23 ?_
    refine v_iload_n (i := 1) dX0_doorOf_18 rfl rfl ?_
    obtain ⟨a24, rfl⟩ := rv_s hf
    replace hf := rv_e hf
    obtain ⟨w25, fs26, hh27, hf⟩ := hf
    refine V.addK0 ?_
    refine V.addN0 ?_
    refine v_callV (mc := 0) (ms := 0) 1 dX0_doorOf_19 (m_J2_get hG hf) rfl hh27 rfl (lw_V q1670 q661 q662 q92 q663) rfl (by decide +kernel) (by decide) rfl (cat_len (Nat.le_of_ble_eq_true rfl)) (kk_R fun r29 h28 hg => ?_) (fun _ _ _ hx => hx.elim)
    replace hf := hg
    clear hg
    obtain ⟨hoc, hf⟩ := hf
    refine v_castQS (r := r29) dX0_doorOf_22 q1671 hoc rfl ?_
    refine v_iload_n (i := 2) dX0_doorOf_25 rfl rfl ?_
    obtain ⟨a30, rfl⟩ := rv_s hf
    replace hf := rv_e hf
    obtain ⟨w31, fs32, hh33, hf⟩ := hf
    refine V.addK0 ?_
    refine V.addN0 ?_
    refine v_callV (mc := 0) (ms := 0) 1 dX0_doorOf_26 (m_X5_of hG hf) rfl hh33 rfl (lw_V q1672 q1673 q1674 q110 q1675) rfl (by decide +kernel) (by decide) rfl (cat_len (Nat.le_of_ble_eq_true rfl)) (kk_I fun i35 h34 hg => ?_) (fun _ _ _ hx => hx.elim)
    replace hf := hg
    clear hg
    refine v_goto 35 dX0_doorOf_29 (by decide) ?_
    exact v_iret dX0_doorOf_35 rfl ⟨_, rfl, hf⟩
abbrev Y_X0_go : Yt := (yX0_go, some (.int), 7, 177, [(23, 36, 37, 47)])
def f_X0_go (G : Gt) (h : Hp) (k n : Nat) (t_0 : Option Nat) (i_1 : Int32) (K : Int32 → Hp → Prop) : Prop :=
gR h t_0 0 0 fun r1 =>
rv h r1 1 (f_X1_isDoor G h r1 i_1 (fun i11 h10 =>
((¬ (i11 = 0) → gR h10 t_0 0 0 fun r13 =>
rv h10 r13 1 (dR G Y_X1_copy cX1_copy 4 [va_rf r13] h10 k n (fun r23 h22 k26 n27 =>
gR h22 t_0 0 0 fun r28 =>
rv h22 r28 1 (dIx G Y_X1_goes cX1_goes 5 [va_rf r28, .int i_1] h22 k26 n27 (fun i38 h37 k41 n42 =>
rv h37 t_0 0 (f_X0_changed G h37 t_0 r23 i38 (fun i54 h53 =>
K i54 h53))) (fun c43 q44 h37 k41 n42 =>
(c43 = 4 ∧ rv h37 t_0 0 (f_X0_refused G h37 t_0 (some q44) (fun i49 h48 =>
K i49 h48)))))) xN)) ∧
(i11 = 0 → K (-1011 : Int32) h10))))
theorem m_X0_go {G : Gt} {h : Hp} {mc ms : Nat} {a0 : Nat} {i_1 : Int32} {K : Int32 → Hp → Prop} (hG : Base G) (hA : 0 ≤ mc) (hB : 0 ≤ ms) (hf : f_X0_go G h (mc - 0) (ms - 0) (some a0) i_1 K) : MM G Y_X0_go cX0_go 4 mc ms [.ref a0, .int i_1] h (kI K) xN := by
  refine mm_ofH hG (by decide +kernel) rfl (ac_c rfl (ac_c rfl ac_nil)) (Nat.le_of_ble_eq_true rfl) (fun E _ _ => ?_)
  obtain ⟨k, hk9⟩ : ∃ z, z = mc - 0 := ⟨_, rfl⟩
  obtain ⟨n, hn9⟩ : ∃ z, z = ms - 0 := ⟨_, rfl⟩
  rw [← hk9, ← hn9] at hf
  refine V.weak (k' := k + 0) (n' := n + 0) ?_ (by omega) (by omega)
  show V G E Y_X0_go cX0_go 4 (QM G E (kI K) xN) h (k + 0) (n + 0) 0 [(0, .ref a0), (1, .int i_1)] []
  unfold f_X0_go at hf
  refine v_qload_n (r := (some a0)) (i := 0) dX0_go_0 rfl rfl ?_
  replace hf := gR_e hf
  obtain ⟨w2, fs3, r1, hh4, hk5, hf⟩ := hf
  refine v_getf (T := TX0) (ci := 0) 0 dX0_go_1 q275 rfl in_X0 (Nat.le_of_ble_eq_true rfl) (Or.inl rfl) hh4 hk5 ?_
  refine v_iload_n (i := 1) dX0_go_4 rfl rfl ?_
  obtain ⟨a6, rfl⟩ := rv_s hf
  replace hf := rv_e hf
  obtain ⟨w7, fs8, hh9, hf⟩ := hf
  refine V.addK0 ?_
  refine V.addN0 ?_
  refine v_callV (mc := 0) (ms := 0) 1 dX0_go_5 (m_X1_isDoor hG hf) rfl hh9 rfl (lw_V q1666 q1667 q1668 q89 q1669) rfl (by decide +kernel) (by decide) rfl (cat_len (Nat.le_of_ble_eq_true rfl)) (kk_I fun i11 h10 hg => ?_) (fun _ _ _ hx => hx.elim)
  replace hf := hg
  clear hg
  refine v_if_ne 15 dX0_go_8 (by decide) (fun c12 => ?_) (fun c12 => ?_)
  · replace hf := hf.1 c12
    refine v_qload_n (r := (some a0)) (i := 0) dX0_go_15 rfl rfl ?_
    replace hf := gR_e hf
    obtain ⟨w14, fs15, r13, hh16, hk17, hf⟩ := hf
    refine v_getf (T := TX0) (ci := 0) 0 dX0_go_16 q275 rfl in_X0 (Nat.le_of_ble_eq_true rfl) (Or.inl rfl) hh16 hk17 ?_
    obtain ⟨a18, rfl⟩ := rv_s hf
    replace hf := rv_e hf
    obtain ⟨w19, fs20, hh21, hf⟩ := hf
    obtain ⟨mc24, ms25, hkmc24, hnms25, hM⟩ := hf
    refine V.weak (k' := ((k - mc24) + 0) + mc24) (n' := ((n - ms25) + 0) + ms25) ?_ (by omega) (by omega)
    refine v_callV 0 dX0_go_19 hM rfl hh21 rfl (lw_V q309 q310 q311 q89 q312) rfl (by decide +kernel) (by decide) rfl (cat_len (Nat.le_of_ble_eq_true rfl)) (kk_R fun r23 h22 hg => ?_) (fun _ _ _ hx => hx.elim)
    have hf := hg
    clear hg
    refine v_qstore_n (i := 2) (r := r23) (lv' := [(0, va_rf (some a0)), (1, .int i_1), (2, va_rf r23)]) dX0_go_22 rfl (Nat.le_of_ble_eq_true rfl) rfl rfl ?_
    refine v_qload_n (r := (some a0)) (i := 0) dX0_go_23 rfl rfl ?_
    refine v_qload_n (r := r23) (i := 2) dX0_go_24 rfl rfl ?_
    refine v_qload_n (r := (some a0)) (i := 0) dX0_go_25 rfl rfl ?_
    replace hf := gR_e hf
    obtain ⟨w29, fs30, r28, hh31, hk32, hf⟩ := hf
    refine v_getf (T := TX0) (ci := 0) 0 dX0_go_26 q275 rfl in_X0 (Nat.le_of_ble_eq_true rfl) (Or.inl rfl) hh31 hk32 ?_
    refine v_iload_n (i := 1) dX0_go_29 rfl rfl ?_
    obtain ⟨a33, rfl⟩ := rv_s hf
    replace hf := rv_e hf
    obtain ⟨w34, fs35, hh36, hf⟩ := hf
    obtain ⟨mc39, ms40, hkmc39, hnms40, hM⟩ := hf
    refine V.weak (k' := (((k - mc24) - mc39) + 0) + mc39) (n' := (((n - ms25) - ms40) + 0) + ms40) ?_ (by omega) (by omega)
    refine v_callV 1 dX0_go_30 hM rfl hh36 rfl (lw_V q1680 q1681 q1682 q89 q1683) rfl (by decide +kernel) (by decide) rfl (cat_len (Nat.le_of_ble_eq_true rfl)) (kk_I fun i38 h37 hg => ?_) (fun c43 q44 h37 hg => ?_)
    · have hf := hg
      clear hg
      replace hf := rv_e hf
      obtain ⟨w50, fs51, hh52, hf⟩ := hf
      refine V.addK0 ?_
      refine V.addN0 ?_
      refine v_callV (mc := 0) (ms := 0) 2 dX0_go_33 (m_X0_changed hG hf) rfl hh52 rfl (lw_V q585 q587 qs4 q88 q588) rfl (by decide +kernel) (by decide) rfl (cat_len (Nat.le_of_ble_eq_true rfl)) (kk_I fun i54 h53 hg => ?_) (fun _ _ _ hx => hx.elim)
      replace hf := hg
      clear hg
      exact v_iret dX0_go_36 rfl ⟨_, rfl, hf⟩
    · have hf := hg
      clear hg
      obtain ⟨rfl, hf⟩ := hf
      refine vx_caught [] _ _ rfl (fun _ h => nomatch h) (by decide) (by decide) q302 rfl q516 ?_
      refine v_astore_n (i := 3) (lv' := [(0, va_rf (some a0)), (1, .int i_1), (2, va_rf r23), (3, .ref q44)]) dX0_go_37 rfl (Nat.le_of_ble_eq_true rfl) rfl rfl ?_
      refine v_qload_n (r := (some a0)) (i := 0) dX0_go_38 rfl rfl ?_
      refine v_aload_n (i := 3) dX0_go_39 rfl rfl ?_
      replace hf := rv_e hf
      obtain ⟨w45, fs46, hh47, hf⟩ := hf
      refine V.addK0 ?_
      refine V.addN0 ?_
      refine v_callV (mc := 0) (ms := 0) 1 dX0_go_40 (m_X0_refused hG hf) rfl hh47 rfl (lw_V q626 q628 qs7 q88 q629) rfl (by decide +kernel) (by decide) rfl (cat_len (Nat.le_of_ble_eq_true rfl)) (kk_I fun i49 h48 hg => ?_) (fun _ _ _ hx => hx.elim)
      replace hf := hg
      clear hg
      exact v_iret dX0_go_43 rfl ⟨_, rfl, hf⟩
  · replace hf := hf.2 c12
    refine v_sipush (v := -1011) dX0_go_11 (by decide) ?_
    exact v_iret dX0_go_14 rfl ⟨_, rfl, hf⟩
abbrev Y_X0_rest : Yt := (yX0_rest, some (.int), 7, 173, [(22, 35, 36, 47)])
def f_X0_rest (G : Gt) (h : Hp) (k n : Nat) (t_0 : Option Nat) (i_1 : Int32) (K : Int32 → Hp → Prop) : Prop :=
f_X0_isIn G h i_1 (1 : Int32) (50 : Int32) (fun i2 h1 =>
((¬ (i2 = 0) → gR h1 t_0 0 0 fun r4 =>
rv h1 r4 1 (dR G Y_X1_copy cX1_copy 4 [va_rf r4] h1 k n (fun r14 h13 k17 n18 =>
gR h13 t_0 0 0 fun r19 =>
rv h13 r19 1 (dIx G Y_X1_rests cX1_rests 2 [va_rf r19, .int i_1] h13 k17 n18 (fun i29 h28 k32 n33 =>
rv h28 t_0 0 (f_X0_changed G h28 t_0 r14 i29 (fun i45 h44 =>
K i45 h44))) (fun c34 q35 h28 k32 n33 =>
(c34 = 4 ∧ rv h28 t_0 0 (f_X0_refused G h28 t_0 (some q35) (fun i40 h39 =>
K i40 h39)))))) xN)) ∧
(i2 = 0 → K (-1012 : Int32) h1)))
theorem m_X0_rest {G : Gt} {h : Hp} {mc ms : Nat} {a0 : Nat} {i_1 : Int32} {K : Int32 → Hp → Prop} (hG : Base G) (hA : 0 ≤ mc) (hB : 0 ≤ ms) (hf : f_X0_rest G h (mc - 0) (ms - 0) (some a0) i_1 K) : MM G Y_X0_rest cX0_rest 4 mc ms [.ref a0, .int i_1] h (kI K) xN := by
  refine mm_ofH hG (by decide +kernel) rfl (ac_c rfl (ac_c rfl ac_nil)) (Nat.le_of_ble_eq_true rfl) (fun E _ _ => ?_)
  obtain ⟨k, hk9⟩ : ∃ z, z = mc - 0 := ⟨_, rfl⟩
  obtain ⟨n, hn9⟩ : ∃ z, z = ms - 0 := ⟨_, rfl⟩
  rw [← hk9, ← hn9] at hf
  refine V.weak (k' := k + 0) (n' := n + 0) ?_ (by omega) (by omega)
  show V G E Y_X0_rest cX0_rest 4 (QM G E (kI K) xN) h (k + 0) (n + 0) 0 [(0, .ref a0), (1, .int i_1)] []
  unfold f_X0_rest at hf
  refine v_iload_n (i := 1) dX0_rest_0 rfl rfl ?_
  refine v_iconst (v := 1) dX0_rest_1 (by decide) ?_
  refine v_bipush (v := 50) dX0_rest_2 (by decide) ?_
  refine V.addK0 ?_
  refine V.addN0 ?_
  refine v_callS (mc := 0) (ms := 0) 3 dX0_rest_4 (m_X0_isIn hG hf) rfl (lw_S q306 q307 q88 q308) rfl (by decide +kernel) (by decide) rfl (cat_len (Nat.le_of_ble_eq_true rfl)) (kk_I fun i2 h1 hg => ?_) (fun _ _ _ hx => hx.elim)
  replace hf := hg
  clear hg
  refine v_if_ne 14 dX0_rest_7 (by decide) (fun c3 => ?_) (fun c3 => ?_)
  · replace hf := hf.1 c3
    refine v_qload_n (r := (some a0)) (i := 0) dX0_rest_14 rfl rfl ?_
    replace hf := gR_e hf
    obtain ⟨w5, fs6, r4, hh7, hk8, hf⟩ := hf
    refine v_getf (T := TX0) (ci := 0) 0 dX0_rest_15 q275 rfl in_X0 (Nat.le_of_ble_eq_true rfl) (Or.inl rfl) hh7 hk8 ?_
    obtain ⟨a9, rfl⟩ := rv_s hf
    replace hf := rv_e hf
    obtain ⟨w10, fs11, hh12, hf⟩ := hf
    obtain ⟨mc15, ms16, hkmc15, hnms16, hM⟩ := hf
    refine V.weak (k' := ((k - mc15) + 0) + mc15) (n' := ((n - ms16) + 0) + ms16) ?_ (by omega) (by omega)
    refine v_callV 0 dX0_rest_18 hM rfl hh12 rfl (lw_V q309 q310 q311 q89 q312) rfl (by decide +kernel) (by decide) rfl (cat_len (Nat.le_of_ble_eq_true rfl)) (kk_R fun r14 h13 hg => ?_) (fun _ _ _ hx => hx.elim)
    have hf := hg
    clear hg
    refine v_qstore_n (i := 2) (r := r14) (lv' := [(0, va_rf (some a0)), (1, .int i_1), (2, va_rf r14)]) dX0_rest_21 rfl (Nat.le_of_ble_eq_true rfl) rfl rfl ?_
    refine v_qload_n (r := (some a0)) (i := 0) dX0_rest_22 rfl rfl ?_
    refine v_qload_n (r := r14) (i := 2) dX0_rest_23 rfl rfl ?_
    refine v_qload_n (r := (some a0)) (i := 0) dX0_rest_24 rfl rfl ?_
    replace hf := gR_e hf
    obtain ⟨w20, fs21, r19, hh22, hk23, hf⟩ := hf
    refine v_getf (T := TX0) (ci := 0) 0 dX0_rest_25 q275 rfl in_X0 (Nat.le_of_ble_eq_true rfl) (Or.inl rfl) hh22 hk23 ?_
    refine v_iload_n (i := 1) dX0_rest_28 rfl rfl ?_
    obtain ⟨a24, rfl⟩ := rv_s hf
    replace hf := rv_e hf
    obtain ⟨w25, fs26, hh27, hf⟩ := hf
    obtain ⟨mc30, ms31, hkmc30, hnms31, hM⟩ := hf
    refine V.weak (k' := (((k - mc15) - mc30) + 0) + mc30) (n' := (((n - ms16) - ms31) + 0) + ms31) ?_ (by omega) (by omega)
    refine v_callV 1 dX0_rest_29 hM rfl hh27 rfl (lw_V q1711 q1712 q1713 q89 q1714) rfl (by decide +kernel) (by decide) rfl (cat_len (Nat.le_of_ble_eq_true rfl)) (kk_I fun i29 h28 hg => ?_) (fun c34 q35 h28 hg => ?_)
    · have hf := hg
      clear hg
      replace hf := rv_e hf
      obtain ⟨w41, fs42, hh43, hf⟩ := hf
      refine V.addK0 ?_
      refine V.addN0 ?_
      refine v_callV (mc := 0) (ms := 0) 2 dX0_rest_32 (m_X0_changed hG hf) rfl hh43 rfl (lw_V q585 q587 qs4 q88 q588) rfl (by decide +kernel) (by decide) rfl (cat_len (Nat.le_of_ble_eq_true rfl)) (kk_I fun i45 h44 hg => ?_) (fun _ _ _ hx => hx.elim)
      replace hf := hg
      clear hg
      exact v_iret dX0_rest_35 rfl ⟨_, rfl, hf⟩
    · have hf := hg
      clear hg
      obtain ⟨rfl, hf⟩ := hf
      refine vx_caught [] _ _ rfl (fun _ h => nomatch h) (by decide) (by decide) q302 rfl q516 ?_
      refine v_astore_n (i := 3) (lv' := [(0, va_rf (some a0)), (1, .int i_1), (2, va_rf r14), (3, .ref q35)]) dX0_rest_36 rfl (Nat.le_of_ble_eq_true rfl) rfl rfl ?_
      refine v_qload_n (r := (some a0)) (i := 0) dX0_rest_37 rfl rfl ?_
      refine v_aload_n (i := 3) dX0_rest_38 rfl rfl ?_
      replace hf := rv_e hf
      obtain ⟨w36, fs37, hh38, hf⟩ := hf
      refine V.addK0 ?_
      refine V.addN0 ?_
      refine v_callV (mc := 0) (ms := 0) 1 dX0_rest_39 (m_X0_refused hG hf) rfl hh38 rfl (lw_V q626 q628 qs7 q88 q629) rfl (by decide +kernel) (by decide) rfl (cat_len (Nat.le_of_ble_eq_true rfl)) (kk_I fun i40 h39 hg => ?_) (fun _ _ _ hx => hx.elim)
      replace hf := hg
      clear hg
      exact v_iret dX0_rest_42 rfl ⟨_, rfl, hf⟩
  · replace hf := hf.2 c3
    refine v_sipush (v := -1012) dX0_rest_10 (by decide) ?_
    exact v_iret dX0_rest_13 rfl ⟨_, rfl, hf⟩
abbrev Y_X0_take : Yt := (yX0_take, some (.int), 7, 174, [(19, 32, 33, 47)])
def f_X0_take (G : Gt) (h : Hp) (k n : Nat) (t_0 : Option Nat) (i_1 : Int32) (K : Int32 → Hp → Prop) : Prop :=
f_X0_isColour G h i_1 (fun i2 h1 =>
((¬ (i2 = 0) → gR h1 t_0 0 0 fun r4 =>
rv h1 r4 1 (dR G Y_X1_copy cX1_copy 4 [va_rf r4] h1 k n (fun r14 h13 k17 n18 =>
gR h13 t_0 0 0 fun r19 =>
rv h13 r19 1 (f_X1_takes G h13 r19 i_1 (fun i29 h28 =>
rv h28 t_0 0 (f_X0_changed G h28 t_0 r14 i29 (fun i41 h40 =>
K i41 h40))) (fun c30 q31 h28 =>
(c30 = 4 ∧ rv h28 t_0 0 (f_X0_refused G h28 t_0 (some q31) (fun i36 h35 =>
K i36 h35)))))) xN)) ∧
(i2 = 0 → K (-1012 : Int32) h1)))
theorem m_X0_take {G : Gt} {h : Hp} {mc ms : Nat} {a0 : Nat} {i_1 : Int32} {K : Int32 → Hp → Prop} (hG : Base G) (hA : 3 ≤ mc) (hB : 24 ≤ ms) (hf : f_X0_take G h (mc - 3) (ms - 24) (some a0) i_1 K) : MM G Y_X0_take cX0_take 4 mc ms [.ref a0, .int i_1] h (kI K) xN := by
  refine mm_ofH hG (by decide +kernel) rfl (ac_c rfl (ac_c rfl ac_nil)) (Nat.le_of_ble_eq_true rfl) (fun E _ _ => ?_)
  obtain ⟨k, hk9⟩ : ∃ z, z = mc - 3 := ⟨_, rfl⟩
  obtain ⟨n, hn9⟩ : ∃ z, z = ms - 24 := ⟨_, rfl⟩
  rw [← hk9, ← hn9] at hf
  refine V.weak (k' := k + 3) (n' := n + 24) ?_ (by omega) (by omega)
  show V G E Y_X0_take cX0_take 4 (QM G E (kI K) xN) h (k + 3) (n + 24) 0 [(0, .ref a0), (1, .int i_1)] []
  unfold f_X0_take at hf
  refine v_iload_n (i := 1) dX0_take_0 rfl rfl ?_
  refine V.addK0 ?_
  refine V.addN0 ?_
  refine v_callS (mc := 0) (ms := 0) 1 dX0_take_1 (m_X0_isColour hG hf) rfl (lw_S q649 q650 q88 q651) rfl (by decide +kernel) (by decide) rfl (cat_len (Nat.le_of_ble_eq_true rfl)) (kk_I fun i2 h1 hg => ?_) (fun _ _ _ hx => hx.elim)
  replace hf := hg
  clear hg
  refine v_if_ne 11 dX0_take_4 (by decide) (fun c3 => ?_) (fun c3 => ?_)
  · replace hf := hf.1 c3
    refine v_qload_n (r := (some a0)) (i := 0) dX0_take_11 rfl rfl ?_
    replace hf := gR_e hf
    obtain ⟨w5, fs6, r4, hh7, hk8, hf⟩ := hf
    refine v_getf (T := TX0) (ci := 0) 0 dX0_take_12 q275 rfl in_X0 (Nat.le_of_ble_eq_true rfl) (Or.inl rfl) hh7 hk8 ?_
    obtain ⟨a9, rfl⟩ := rv_s hf
    replace hf := rv_e hf
    obtain ⟨w10, fs11, hh12, hf⟩ := hf
    obtain ⟨mc15, ms16, hkmc15, hnms16, hM⟩ := hf
    refine V.weak (k' := ((k - mc15) + 3) + mc15) (n' := ((n - ms16) + 24) + ms16) ?_ (by omega) (by omega)
    refine v_callV 0 dX0_take_15 hM rfl hh12 rfl (lw_V q309 q310 q311 q89 q312) rfl (by decide +kernel) (by decide) rfl (cat_len (Nat.le_of_ble_eq_true rfl)) (kk_R fun r14 h13 hg => ?_) (fun _ _ _ hx => hx.elim)
    have hf := hg
    clear hg
    refine v_qstore_n (i := 2) (r := r14) (lv' := [(0, va_rf (some a0)), (1, .int i_1), (2, va_rf r14)]) dX0_take_18 rfl (Nat.le_of_ble_eq_true rfl) rfl rfl ?_
    refine v_qload_n (r := (some a0)) (i := 0) dX0_take_19 rfl rfl ?_
    refine v_qload_n (r := r14) (i := 2) dX0_take_20 rfl rfl ?_
    refine v_qload_n (r := (some a0)) (i := 0) dX0_take_21 rfl rfl ?_
    replace hf := gR_e hf
    obtain ⟨w20, fs21, r19, hh22, hk23, hf⟩ := hf
    refine v_getf (T := TX0) (ci := 0) 0 dX0_take_22 q275 rfl in_X0 (Nat.le_of_ble_eq_true rfl) (Or.inl rfl) hh22 hk23 ?_
    refine v_iload_n (i := 1) dX0_take_25 rfl rfl ?_
    obtain ⟨a24, rfl⟩ := rv_s hf
    replace hf := rv_e hf
    obtain ⟨w25, fs26, hh27, hf⟩ := hf
    refine v_callV (mc := 3) (ms := 24) 1 dX0_take_26 (m_X1_takes hG hf) rfl hh27 rfl (lw_V q1723 q1724 q1725 q89 q1726) rfl (by decide +kernel) (by decide) rfl (cat_len (Nat.le_of_ble_eq_true rfl)) (kk_I fun i29 h28 hg => ?_) (fun c30 q31 h28 hg => ?_)
    · replace hf := hg
      clear hg
      replace hf := rv_e hf
      obtain ⟨w37, fs38, hh39, hf⟩ := hf
      refine V.addK0 ?_
      refine V.addN0 ?_
      refine v_callV (mc := 0) (ms := 0) 2 dX0_take_29 (m_X0_changed hG hf) rfl hh39 rfl (lw_V q585 q587 qs4 q88 q588) rfl (by decide +kernel) (by decide) rfl (cat_len (Nat.le_of_ble_eq_true rfl)) (kk_I fun i41 h40 hg => ?_) (fun _ _ _ hx => hx.elim)
      replace hf := hg
      clear hg
      exact v_iret dX0_take_32 rfl ⟨_, rfl, hf⟩
    · replace hf := hg
      clear hg
      obtain ⟨rfl, hf⟩ := hf
      refine vx_caught [] _ _ rfl (fun _ h => nomatch h) (by decide) (by decide) q302 rfl q516 ?_
      refine v_astore_n (i := 3) (lv' := [(0, va_rf (some a0)), (1, .int i_1), (2, va_rf r14), (3, .ref q31)]) dX0_take_33 rfl (Nat.le_of_ble_eq_true rfl) rfl rfl ?_
      refine v_qload_n (r := (some a0)) (i := 0) dX0_take_34 rfl rfl ?_
      refine v_aload_n (i := 3) dX0_take_35 rfl rfl ?_
      replace hf := rv_e hf
      obtain ⟨w32, fs33, hh34, hf⟩ := hf
      refine V.addK0 ?_
      refine V.addN0 ?_
      refine v_callV (mc := 0) (ms := 0) 1 dX0_take_36 (m_X0_refused hG hf) rfl hh34 rfl (lw_V q626 q628 qs7 q88 q629) rfl (by decide +kernel) (by decide) rfl (cat_len (Nat.le_of_ble_eq_true rfl)) (kk_I fun i36 h35 hg => ?_) (fun _ _ _ hx => hx.elim)
      replace hf := hg
      clear hg
      exact v_iret dX0_take_39 rfl ⟨_, rfl, hf⟩
  · replace hf := hf.2 c3
    refine v_sipush (v := -1012) dX0_take_7 (by decide) ?_
    exact v_iret dX0_take_10 rfl ⟨_, rfl, hf⟩
abbrev Y_X0_open : Yt := (yX0_open, some (.int), 7, 177, [(23, 36, 37, 47)])
def f_X0_open (G : Gt) (h : Hp) (k n : Nat) (t_0 : Option Nat) (i_1 : Int32) (K : Int32 → Hp → Prop) : Prop :=
gR h t_0 0 0 fun r1 =>
rv h r1 1 (f_X1_isDoor G h r1 i_1 (fun i11 h10 =>
((¬ (i11 = 0) → gR h10 t_0 0 0 fun r13 =>
rv h10 r13 1 (dR G Y_X1_copy cX1_copy 4 [va_rf r13] h10 k n (fun r23 h22 k26 n27 =>
gR h22 t_0 0 0 fun r28 =>
rv h22 r28 1 (f_X1_opens G h22 r28 i_1 (fun i38 h37 =>
rv h37 t_0 0 (f_X0_changed G h37 t_0 r23 i38 (fun i50 h49 =>
K i50 h49))) (fun c39 q40 h37 =>
(c39 = 4 ∧ rv h37 t_0 0 (f_X0_refused G h37 t_0 (some q40) (fun i45 h44 =>
K i45 h44)))))) xN)) ∧
(i11 = 0 → K (-1011 : Int32) h10))))
theorem m_X0_open {G : Gt} {h : Hp} {mc ms : Nat} {a0 : Nat} {i_1 : Int32} {K : Int32 → Hp → Prop} (hG : Base G) (hA : 4 ≤ mc) (hB : 30 ≤ ms) (hf : f_X0_open G h (mc - 4) (ms - 30) (some a0) i_1 K) : MM G Y_X0_open cX0_open 4 mc ms [.ref a0, .int i_1] h (kI K) xN := by
  refine mm_ofH hG (by decide +kernel) rfl (ac_c rfl (ac_c rfl ac_nil)) (Nat.le_of_ble_eq_true rfl) (fun E _ _ => ?_)
  obtain ⟨k, hk9⟩ : ∃ z, z = mc - 4 := ⟨_, rfl⟩
  obtain ⟨n, hn9⟩ : ∃ z, z = ms - 30 := ⟨_, rfl⟩
  rw [← hk9, ← hn9] at hf
  refine V.weak (k' := k + 4) (n' := n + 30) ?_ (by omega) (by omega)
  show V G E Y_X0_open cX0_open 4 (QM G E (kI K) xN) h (k + 4) (n + 30) 0 [(0, .ref a0), (1, .int i_1)] []
  unfold f_X0_open at hf
  refine v_qload_n (r := (some a0)) (i := 0) dX0_open_0 rfl rfl ?_
  replace hf := gR_e hf
  obtain ⟨w2, fs3, r1, hh4, hk5, hf⟩ := hf
  refine v_getf (T := TX0) (ci := 0) 0 dX0_open_1 q275 rfl in_X0 (Nat.le_of_ble_eq_true rfl) (Or.inl rfl) hh4 hk5 ?_
  refine v_iload_n (i := 1) dX0_open_4 rfl rfl ?_
  obtain ⟨a6, rfl⟩ := rv_s hf
  replace hf := rv_e hf
  obtain ⟨w7, fs8, hh9, hf⟩ := hf
  refine V.addK0 ?_
  refine V.addN0 ?_
  refine v_callV (mc := 0) (ms := 0) 1 dX0_open_5 (m_X1_isDoor hG hf) rfl hh9 rfl (lw_V q1666 q1667 q1668 q89 q1669) rfl (by decide +kernel) (by decide) rfl (cat_len (Nat.le_of_ble_eq_true rfl)) (kk_I fun i11 h10 hg => ?_) (fun _ _ _ hx => hx.elim)
  replace hf := hg
  clear hg
  refine v_if_ne 15 dX0_open_8 (by decide) (fun c12 => ?_) (fun c12 => ?_)
  · replace hf := hf.1 c12
    refine v_qload_n (r := (some a0)) (i := 0) dX0_open_15 rfl rfl ?_
    replace hf := gR_e hf
    obtain ⟨w14, fs15, r13, hh16, hk17, hf⟩ := hf
    refine v_getf (T := TX0) (ci := 0) 0 dX0_open_16 q275 rfl in_X0 (Nat.le_of_ble_eq_true rfl) (Or.inl rfl) hh16 hk17 ?_
    obtain ⟨a18, rfl⟩ := rv_s hf
    replace hf := rv_e hf
    obtain ⟨w19, fs20, hh21, hf⟩ := hf
    obtain ⟨mc24, ms25, hkmc24, hnms25, hM⟩ := hf
    refine V.weak (k' := ((k - mc24) + 4) + mc24) (n' := ((n - ms25) + 30) + ms25) ?_ (by omega) (by omega)
    refine v_callV 0 dX0_open_19 hM rfl hh21 rfl (lw_V q309 q310 q311 q89 q312) rfl (by decide +kernel) (by decide) rfl (cat_len (Nat.le_of_ble_eq_true rfl)) (kk_R fun r23 h22 hg => ?_) (fun _ _ _ hx => hx.elim)
    have hf := hg
    clear hg
    refine v_qstore_n (i := 2) (r := r23) (lv' := [(0, va_rf (some a0)), (1, .int i_1), (2, va_rf r23)]) dX0_open_22 rfl (Nat.le_of_ble_eq_true rfl) rfl rfl ?_
    refine v_qload_n (r := (some a0)) (i := 0) dX0_open_23 rfl rfl ?_
    refine v_qload_n (r := r23) (i := 2) dX0_open_24 rfl rfl ?_
    refine v_qload_n (r := (some a0)) (i := 0) dX0_open_25 rfl rfl ?_
    replace hf := gR_e hf
    obtain ⟨w29, fs30, r28, hh31, hk32, hf⟩ := hf
    refine v_getf (T := TX0) (ci := 0) 0 dX0_open_26 q275 rfl in_X0 (Nat.le_of_ble_eq_true rfl) (Or.inl rfl) hh31 hk32 ?_
    refine v_iload_n (i := 1) dX0_open_29 rfl rfl ?_
    obtain ⟨a33, rfl⟩ := rv_s hf
    replace hf := rv_e hf
    obtain ⟨w34, fs35, hh36, hf⟩ := hf
    refine v_callV (mc := 4) (ms := 30) 1 dX0_open_30 (m_X1_opens hG hf) rfl hh36 rfl (lw_V q1731 q1732 q1733 q89 q1734) rfl (by decide +kernel) (by decide) rfl (cat_len (Nat.le_of_ble_eq_true rfl)) (kk_I fun i38 h37 hg => ?_) (fun c39 q40 h37 hg => ?_)
    · replace hf := hg
      clear hg
      replace hf := rv_e hf
      obtain ⟨w46, fs47, hh48, hf⟩ := hf
      refine V.addK0 ?_
      refine V.addN0 ?_
      refine v_callV (mc := 0) (ms := 0) 2 dX0_open_33 (m_X0_changed hG hf) rfl hh48 rfl (lw_V q585 q587 qs4 q88 q588) rfl (by decide +kernel) (by decide) rfl (cat_len (Nat.le_of_ble_eq_true rfl)) (kk_I fun i50 h49 hg => ?_) (fun _ _ _ hx => hx.elim)
      replace hf := hg
      clear hg
      exact v_iret dX0_open_36 rfl ⟨_, rfl, hf⟩
    · replace hf := hg
      clear hg
      obtain ⟨rfl, hf⟩ := hf
      refine vx_caught [] _ _ rfl (fun _ h => nomatch h) (by decide) (by decide) q302 rfl q516 ?_
      refine v_astore_n (i := 3) (lv' := [(0, va_rf (some a0)), (1, .int i_1), (2, va_rf r23), (3, .ref q40)]) dX0_open_37 rfl (Nat.le_of_ble_eq_true rfl) rfl rfl ?_
      refine v_qload_n (r := (some a0)) (i := 0) dX0_open_38 rfl rfl ?_
      refine v_aload_n (i := 3) dX0_open_39 rfl rfl ?_
      replace hf := rv_e hf
      obtain ⟨w41, fs42, hh43, hf⟩ := hf
      refine V.addK0 ?_
      refine V.addN0 ?_
      refine v_callV (mc := 0) (ms := 0) 1 dX0_open_40 (m_X0_refused hG hf) rfl hh43 rfl (lw_V q626 q628 qs7 q88 q629) rfl (by decide +kernel) (by decide) rfl (cat_len (Nat.le_of_ble_eq_true rfl)) (kk_I fun i45 h44 hg => ?_) (fun _ _ _ hx => hx.elim)
      replace hf := hg
      clear hg
      exact v_iret dX0_open_43 rfl ⟨_, rfl, hf⟩
  · replace hf := hf.2 c12
    refine v_sipush (v := -1011) dX0_open_11 (by decide) ?_
    exact v_iret dX0_open_14 rfl ⟨_, rfl, hf⟩
abbrev Y_X0_walker : Yt := (yX0_walker, some (.int), 8, 189, [])
def f_X0_walker (G : Gt) (h : Hp) (k n : Nat) (t_0 : Option Nat) (i_1 : Int32) (K : Int32 → Hp → Prop) : Prop :=
gR h t_0 0 0 fun r1 =>
rv h r1 1 (dI G Y_X1_ofWalker cX1_ofWalker 2 [va_rf r1, .int i_1] h k n (fun i11 h10 k14 n15 =>
K i11 h10) xN)
theorem m_X0_walker {G : Gt} {h : Hp} {mc ms : Nat} {a0 : Nat} {i_1 : Int32} {K : Int32 → Hp → Prop} (hG : Base G) (hA : 0 ≤ mc) (hB : 0 ≤ ms) (hf : f_X0_walker G h (mc - 0) (ms - 0) (some a0) i_1 K) : MM G Y_X0_walker cX0_walker 2 mc ms [.ref a0, .int i_1] h (kI K) xN := by
  refine mm_of hG (by decide +kernel) rfl (ac_c rfl (ac_c rfl ac_nil)) (Nat.le_of_ble_eq_true rfl) (fun E _ _ => ?_)
  obtain ⟨k, hk9⟩ : ∃ z, z = mc - 0 := ⟨_, rfl⟩
  obtain ⟨n, hn9⟩ : ∃ z, z = ms - 0 := ⟨_, rfl⟩
  rw [← hk9, ← hn9] at hf
  refine V.weak (k' := k + 0) (n' := n + 0) ?_ (by omega) (by omega)
  show V G E Y_X0_walker cX0_walker 2 (QM G E (kI K) xN) h (k + 0) (n + 0) 0 [(0, .ref a0), (1, .int i_1)] []
  unfold f_X0_walker at hf
  refine v_qload_n (r := (some a0)) (i := 0) dX0_walker_0 rfl rfl ?_
  replace hf := gR_e hf
  obtain ⟨w2, fs3, r1, hh4, hk5, hf⟩ := hf
  refine v_getf (T := TX0) (ci := 0) 0 dX0_walker_1 q275 rfl in_X0 (Nat.le_of_ble_eq_true rfl) (Or.inl rfl) hh4 hk5 ?_
  refine v_iload_n (i := 1) dX0_walker_4 rfl rfl ?_
  obtain ⟨a6, rfl⟩ := rv_s hf
  replace hf := rv_e hf
  obtain ⟨w7, fs8, hh9, hf⟩ := hf
  obtain ⟨mc12, ms13, hkmc12, hnms13, hM⟩ := hf
  refine V.weak (k' := ((k - mc12) + 0) + mc12) (n' := ((n - ms13) + 0) + ms13) ?_ (by omega) (by omega)
  refine v_callV 1 dX0_walker_5 hM rfl hh9 rfl (lw_V q1743 q1744 q1745 q89 q1746) rfl (by decide +kernel) (by decide) rfl (cat_len (Nat.le_of_ble_eq_true rfl)) (kk_I fun i11 h10 hg => ?_) (fun _ _ _ hx => hx.elim)
  have hf := hg
  clear hg
  exact v_iret dX0_walker_8 rfl ⟨_, rfl, hf⟩
abbrev Y_X0_isParity : Yt := (yX0_isParity, some (.boolean), 2, 62, [])
def f_X0_isParity (G : Gt) (h : Hp) (i_0 : Int32) (K : Int32 → Hp → Prop) : Prop :=
f_X0_isIn G h i_0 (0 : Int32) (1 : Int32) (fun i2 h1 =>
(narrow .boolean (.int i2) = .int i2 ∧ K i2 h1))
theorem m_X0_isParity {G : Gt} {h : Hp} {i_0 : Int32} {K : Int32 → Hp → Prop} (hG : Base G) (hf : f_X0_isParity G h i_0 K) : MM G Y_X0_isParity cX0_isParity 1 0 0 [.int i_0] h (kI K) xN := by
  refine mm_of hG (by decide +kernel) rfl (ac_c rfl ac_nil) (Nat.le_of_ble_eq_true rfl) (fun E _ _ => ?_)
  show V G E Y_X0_isParity cX0_isParity 1 (QM G E (kI K) xN) h 0 0 0 [(0, .int i_0)] []
  unfold f_X0_isParity at hf
  refine v_iload_n (i := 0) dX0_isParity_0 rfl rfl ?_
  refine v_iconst (v := 0) dX0_isParity_1 (by decide) ?_
  refine v_iconst (v := 1) dX0_isParity_2 (by decide) ?_
  refine V.addK0 ?_
  refine V.addN0 ?_
  refine v_callS (mc := 0) (ms := 0) 3 dX0_isParity_3 (m_X0_isIn hG hf) rfl (lw_S q306 q307 q88 q308) rfl (by decide +kernel) (by decide) rfl (cat_len (Nat.le_of_ble_eq_true rfl)) (kk_I fun i2 h1 hg => ?_) (fun _ _ _ hx => hx.elim)
  replace hf := hg
  clear hg
  exact v_zret dX0_isParity_6 rfl hf.1 ⟨_, rfl, hf.2⟩
abbrev Y_X0_wrong : Yt := (yX0_wrong, some (.int), 5, 123, [])
def f_X0_wrong (G : Gt) (h : Hp) (t_0 : Option Nat) (i_1 : Int32) (i_2 : Int32) (i_3 : Int32) (K : Int32 → Hp → Prop) : Prop :=
gR h t_0 0 0 fun r1 =>
rv h r1 1 (f_X1_areRooms G h r1 i_1 i_2 (fun i11 h10 =>
((¬ (i11 = 0) → f_X0_isParity G h10 i_3 (fun i14 h13 =>
((i14 = 0 → K (-1012 : Int32) h13) ∧
(¬ (i14 = 0) → K (0 : Int32) h13)))) ∧
(i11 = 0 → K (-1011 : Int32) h10))))
theorem m_X0_wrong {G : Gt} {h : Hp} {a0 : Nat} {i_1 : Int32} {i_2 : Int32} {i_3 : Int32} {K : Int32 → Hp → Prop} (hG : Base G) (hf : f_X0_wrong G h (some a0) i_1 i_2 i_3 K) : MM G Y_X0_wrong cX0_wrong 4 0 0 [.ref a0, .int i_1, .int i_2, .int i_3] h (kI K) xN := by
  refine mm_of hG (by decide +kernel) rfl (ac_c rfl (ac_c rfl (ac_c rfl (ac_c rfl ac_nil)))) (Nat.le_of_ble_eq_true rfl) (fun E _ _ => ?_)
  show V G E Y_X0_wrong cX0_wrong 4 (QM G E (kI K) xN) h 0 0 0 [(0, .ref a0), (1, .int i_1), (2, .int i_2), (3, .int i_3)] []
  unfold f_X0_wrong at hf
  refine v_qload_n (r := (some a0)) (i := 0) dX0_wrong_0 rfl rfl ?_
  replace hf := gR_e hf
  obtain ⟨w2, fs3, r1, hh4, hk5, hf⟩ := hf
  refine v_getf (T := TX0) (ci := 0) 0 dX0_wrong_1 q275 rfl in_X0 (Nat.le_of_ble_eq_true rfl) (Or.inl rfl) hh4 hk5 ?_
  refine v_iload_n (i := 1) dX0_wrong_4 rfl rfl ?_
  refine v_iload_n (i := 2) dX0_wrong_5 rfl rfl ?_
  obtain ⟨a6, rfl⟩ := rv_s hf
  replace hf := rv_e hf
  obtain ⟨w7, fs8, hh9, hf⟩ := hf
  refine V.addK0 ?_
  refine V.addN0 ?_
  refine v_callV (mc := 0) (ms := 0) 2 dX0_wrong_6 (m_X1_areRooms hG hf) rfl hh9 rfl (lw_V q634 q635 q636 q89 q637) rfl (by decide +kernel) (by decide) rfl (cat_len (Nat.le_of_ble_eq_true rfl)) (kk_I fun i11 h10 hg => ?_) (fun _ _ _ hx => hx.elim)
  replace hf := hg
  clear hg
  refine v_if_ne 18 dX0_wrong_9 (by decide) (fun c12 => ?_) (fun c12 => ?_)
  · replace hf := hf.1 c12
    refine v_iload_n (i := 3) dX0_wrong_18 rfl rfl ?_
    refine V.addK0 ?_
    refine V.addN0 ?_
    refine v_callS (mc := 0) (ms := 0) 1 dX0_wrong_19 (m_X0_isParity hG hf) rfl (lw_S q1763 q1764 q88 q1765) rfl (by decide +kernel) (by decide) rfl (cat_len (Nat.le_of_ble_eq_true rfl)) (kk_I fun i14 h13 hg => ?_) (fun _ _ _ hx => hx.elim)
    replace hf := hg
    clear hg
    refine v_if_eq 29 dX0_wrong_22 (by decide) (fun c15 => ?_) (fun c15 => ?_)
    · replace hf := hf.1 c15
      refine v_sipush (v := -1012) dX0_wrong_29 (by decide) ?_
      exact v_iret dX0_wrong_32 rfl ⟨_, rfl, hf⟩
    · replace hf := hf.2 c15
      refine v_iconst (v := 0) dX0_wrong_25 (by decide) ?_
      refine v_goto 32 dX0_wrong_26 (by decide) ?_
      exact v_iret dX0_wrong_32 rfl ⟨_, rfl, hf⟩
  · replace hf := hf.2 c12
    refine v_sipush (v := -1011) dX0_wrong_12 (by decide) ?_
    refine v_goto 32 dX0_wrong_15 (by decide) ?_
    exact v_iret dX0_wrong_32 rfl ⟨_, rfl, hf⟩
abbrev Y_X0_way : Yt := (yX0_way, some (.int), 8, 220, [])
def f_X0_way (G : Gt) (h : Hp) (k n : Nat) (t_0 : Option Nat) (i_1 : Int32) (i_2 : Int32) (i_3 : Int32) (K : Int32 → Hp → Prop) : Prop :=
rv h t_0 0 (f_X0_wrong G h t_0 i_1 i_2 i_3 (fun i5 h4 =>
((0 ≤ i5 → gR h4 t_0 0 0 fun r7 =>
rv h4 r7 1 (dI G Y_X1_way cX1_way 4 [va_rf r7, .int i_1, .int i_2, .int i_3] h4 k n (fun i17 h16 k20 n21 =>
K i17 h16) xN)) ∧
(¬ (0 ≤ i5) → K i5 h4))))
theorem m_X0_way {G : Gt} {h : Hp} {mc ms : Nat} {a0 : Nat} {i_1 : Int32} {i_2 : Int32} {i_3 : Int32} {K : Int32 → Hp → Prop} (hG : Base G) (hA : 0 ≤ mc) (hB : 0 ≤ ms) (hf : f_X0_way G h (mc - 0) (ms - 0) (some a0) i_1 i_2 i_3 K) : MM G Y_X0_way cX0_way 5 mc ms [.ref a0, .int i_1, .int i_2, .int i_3] h (kI K) xN := by
  refine mm_of hG (by decide +kernel) rfl (ac_c rfl (ac_c rfl (ac_c rfl (ac_c rfl ac_nil)))) (Nat.le_of_ble_eq_true rfl) (fun E _ _ => ?_)
  obtain ⟨k, hk9⟩ : ∃ z, z = mc - 0 := ⟨_, rfl⟩
  obtain ⟨n, hn9⟩ : ∃ z, z = ms - 0 := ⟨_, rfl⟩
  rw [← hk9, ← hn9] at hf
  refine V.weak (k' := k + 0) (n' := n + 0) ?_ (by omega) (by omega)
  show V G E Y_X0_way cX0_way 5 (QM G E (kI K) xN) h (k + 0) (n + 0) 0 [(0, .ref a0), (1, .int i_1), (2, .int i_2), (3, .int i_3)] []
  unfold f_X0_way at hf
  refine v_qload_n (r := (some a0)) (i := 0) dX0_way_0 rfl rfl ?_
  refine v_iload_n (i := 1) dX0_way_1 rfl rfl ?_
  refine v_iload_n (i := 2) dX0_way_2 rfl rfl ?_
  refine v_iload_n (i := 3) dX0_way_3 rfl rfl ?_
  replace hf := rv_e hf
  obtain ⟨w1, fs2, hh3, hf⟩ := hf
  refine V.addK0 ?_
  refine V.addN0 ?_
  refine v_callV (mc := 0) (ms := 0) 3 dX0_way_4 (m_X0_wrong hG hf) rfl hh3 rfl (lw_V q1759 q1761 qs26 q88 q1762) rfl (by decide +kernel) (by decide) rfl (cat_len (Nat.le_of_ble_eq_true rfl)) (kk_I fun i5 h4 hg => ?_) (fun _ _ _ hx => hx.elim)
  replace hf := hg
  clear hg
  refine v_istore (i := 4) (lv' := [(0, va_rf (some a0)), (1, .int i_1), (2, .int i_2), (3, .int i_3), (4, .int i5)]) dX0_way_7 (Nat.le_of_ble_eq_true rfl) rfl rfl ?_
  refine v_iload (i := 4) dX0_way_9 rfl ?_
  refine v_if_ge 19 dX0_way_11 (by decide) (fun c6 => ?_) (fun c6 => ?_)
  · replace hf := hf.1 c6
    refine v_qload_n (r := (some a0)) (i := 0) dX0_way_19 rfl rfl ?_
    replace hf := gR_e hf
    obtain ⟨w8, fs9, r7, hh10, hk11, hf⟩ := hf
    refine v_getf (T := TX0) (ci := 0) 0 dX0_way_20 q275 rfl in_X0 (Nat.le_of_ble_eq_true rfl) (Or.inl rfl) hh10 hk11 ?_
    refine v_iload_n (i := 1) dX0_way_23 rfl rfl ?_
    refine v_iload_n (i := 2) dX0_way_24 rfl rfl ?_
    refine v_iload_n (i := 3) dX0_way_25 rfl rfl ?_
    obtain ⟨a12, rfl⟩ := rv_s hf
    replace hf := rv_e hf
    obtain ⟨w13, fs14, hh15, hf⟩ := hf
    obtain ⟨mc18, ms19, hkmc18, hnms19, hM⟩ := hf
    refine V.weak (k' := ((k - mc18) + 0) + mc18) (n' := ((n - ms19) + 0) + ms19) ?_ (by omega) (by omega)
    refine v_callV 3 dX0_way_26 hM rfl hh15 rfl (lw_V q1766 q1604 q1605 q89 q1606) rfl (by decide +kernel) (by decide) rfl (cat_len (Nat.le_of_ble_eq_true rfl)) (kk_I fun i17 h16 hg => ?_) (fun _ _ _ hx => hx.elim)
    have hf := hg
    clear hg
    exact v_iret dX0_way_29 rfl ⟨_, rfl, hf⟩
  · replace hf := hf.2 c6
    refine v_iload (i := 4) dX0_way_14 rfl ?_
    refine v_goto 29 dX0_way_16 (by decide) ?_
    exact v_iret dX0_way_29 rfl ⟨_, rfl, hf⟩
abbrev Y_X0_wayAgain : Yt := (yX0_wayAgain, some (.int), 6, 158, [])
def f_X0_wayAgain (G : Gt) (h : Hp) (k n : Nat) (t_0 : Option Nat) (i_1 : Int32) (i_2 : Int32) (i_3 : Int32) (K : Int32 → Hp → Prop) : Prop :=
rv h t_0 0 (f_X0_wrong G h t_0 i_1 i_2 i_3 (fun i5 h4 =>
((0 ≤ i5 → gR h4 t_0 0 0 fun r7 =>
rv h4 r7 1 (dI G Y_X1_wayAgain cX1_wayAgain 8 [va_rf r7, .int i_1, .int i_2, .int i_3] h4 k n (fun i17 h16 k20 n21 =>
K i17 h16) xN)) ∧
(¬ (0 ≤ i5) → K i5 h4))))
theorem m_X0_wayAgain {G : Gt} {h : Hp} {mc ms : Nat} {a0 : Nat} {i_1 : Int32} {i_2 : Int32} {i_3 : Int32} {K : Int32 → Hp → Prop} (hG : Base G) (hA : 0 ≤ mc) (hB : 0 ≤ ms) (hf : f_X0_wayAgain G h (mc - 0) (ms - 0) (some a0) i_1 i_2 i_3 K) : MM G Y_X0_wayAgain cX0_wayAgain 5 mc ms [.ref a0, .int i_1, .int i_2, .int i_3] h (kI K) xN := by
  refine mm_of hG (by decide +kernel) rfl (ac_c rfl (ac_c rfl (ac_c rfl (ac_c rfl ac_nil)))) (Nat.le_of_ble_eq_true rfl) (fun E _ _ => ?_)
  obtain ⟨k, hk9⟩ : ∃ z, z = mc - 0 := ⟨_, rfl⟩
  obtain ⟨n, hn9⟩ : ∃ z, z = ms - 0 := ⟨_, rfl⟩
  rw [← hk9, ← hn9] at hf
  refine V.weak (k' := k + 0) (n' := n + 0) ?_ (by omega) (by omega)
  show V G E Y_X0_wayAgain cX0_wayAgain 5 (QM G E (kI K) xN) h (k + 0) (n + 0) 0 [(0, .ref a0), (1, .int i_1), (2, .int i_2), (3, .int i_3)] []
  unfold f_X0_wayAgain at hf
  refine v_qload_n (r := (some a0)) (i := 0) dX0_wayAgain_0 rfl rfl ?_
  refine v_iload_n (i := 1) dX0_wayAgain_1 rfl rfl ?_
  refine v_iload_n (i := 2) dX0_wayAgain_2 rfl rfl ?_
  refine v_iload_n (i := 3) dX0_wayAgain_3 rfl rfl ?_
  replace hf := rv_e hf
  obtain ⟨w1, fs2, hh3, hf⟩ := hf
  refine V.addK0 ?_
  refine V.addN0 ?_
  refine v_callV (mc := 0) (ms := 0) 3 dX0_wayAgain_4 (m_X0_wrong hG hf) rfl hh3 rfl (lw_V q1759 q1761 qs26 q88 q1762) rfl (by decide +kernel) (by decide) rfl (cat_len (Nat.le_of_ble_eq_true rfl)) (kk_I fun i5 h4 hg => ?_) (fun _ _ _ hx => hx.elim)
  replace hf := hg
  clear hg
  refine v_istore (i := 4) (lv' := [(0, va_rf (some a0)), (1, .int i_1), (2, .int i_2), (3, .int i_3), (4, .int i5)]) dX0_wayAgain_7 (Nat.le_of_ble_eq_true rfl) rfl rfl ?_
  refine v_iload (i := 4) dX0_wayAgain_9 rfl ?_
  refine v_if_ge 19 dX0_wayAgain_11 (by decide) (fun c6 => ?_) (fun c6 => ?_)
  · replace hf := hf.1 c6
    refine v_qload_n (r := (some a0)) (i := 0) dX0_wayAgain_19 rfl rfl ?_
    replace hf := gR_e hf
    obtain ⟨w8, fs9, r7, hh10, hk11, hf⟩ := hf
    refine v_getf (T := TX0) (ci := 0) 0 dX0_wayAgain_20 q275 rfl in_X0 (Nat.le_of_ble_eq_true rfl) (Or.inl rfl) hh10 hk11 ?_
    refine v_iload_n (i := 1) dX0_wayAgain_23 rfl rfl ?_
    refine v_iload_n (i := 2) dX0_wayAgain_24 rfl rfl ?_
    refine v_iload_n (i := 3) dX0_wayAgain_25 rfl rfl ?_
    obtain ⟨a12, rfl⟩ := rv_s hf
    replace hf := rv_e hf
    obtain ⟨w13, fs14, hh15, hf⟩ := hf
    obtain ⟨mc18, ms19, hkmc18, hnms19, hM⟩ := hf
    refine V.weak (k' := ((k - mc18) + 0) + mc18) (n' := ((n - ms19) + 0) + ms19) ?_ (by omega) (by omega)
    refine v_callV 3 dX0_wayAgain_26 hM rfl hh15 rfl (lw_V q1771 q1772 q1773 q89 q1774) rfl (by decide +kernel) (by decide) rfl (cat_len (Nat.le_of_ble_eq_true rfl)) (kk_I fun i17 h16 hg => ?_) (fun _ _ _ hx => hx.elim)
    have hf := hg
    clear hg
    exact v_iret dX0_wayAgain_29 rfl ⟨_, rfl, hf⟩
  · replace hf := hf.2 c6
    refine v_iload (i := 4) dX0_wayAgain_14 rfl ?_
    refine v_goto 29 dX0_wayAgain_16 (by decide) ?_
    exact v_iret dX0_wayAgain_29 rfl ⟨_, rfl, hf⟩
abbrev Y_J27_size : Yt := (yJ27_size, some (.int), 1, 40, [])
def f_J27_size (G : Gt) (h : Hp) (t_0 : Option Nat) (K : Int32 → Hp → Prop) : Prop :=
gI h t_0 19 1 fun i1 =>
K i1 h
theorem m_J27_size {G : Gt} {h : Hp} {a0 : Nat} {K : Int32 → Hp → Prop} (hG : Base G) (hf : f_J27_size G h (some a0) K) : MM G Y_J27_size cJ27_size 1 0 0 [.ref a0] h (kI K) xN := by
  refine mm_of hG (by decide +kernel) rfl (ac_c rfl ac_nil) (Nat.le_of_ble_eq_true rfl) (fun E _ _ => ?_)
  show V G E Y_J27_size cJ27_size 1 (QM G E (kI K) xN) h 0 0 0 [(0, .ref a0)] []
  unfold f_J27_size at hf
  refine v_qload_n (r := (some a0)) (i := 0) dJ27_size_0 rfl rfl ?_
  replace hf := gI_e hf
  obtain ⟨w2, fs3, i1, hh4, hk5, hf⟩ := hf
  refine v_getf (T := TJ27) (ci := 19) 1 dJ27_size_1 q875 rfl in_J27 (Nat.le_of_ble_eq_true rfl) (Or.inl rfl) hh4 hk5 ?_
  exact v_iret dJ27_size_4 rfl ⟨_, rfl, hf⟩
abbrev Y_X0_onWay : Yt := (yX0_onWay, some (.int), 7, 182, [])
def f_X0_onWay (G : Gt) (h : Hp) (k n : Nat) (t_0 : Option Nat) (i_1 : Int32) (i_2 : Int32) (i_3 : Int32) (i_4 : Int32) (K : Int32 → Hp → Prop) : Prop :=
((0 ≤ i_4 → rv h t_0 0 (f_X0_wrong G h t_0 i_1 i_2 i_3 (fun i6 h5 =>
((0 ≤ i6 → gR h5 t_0 0 0 fun r8 =>
rv h5 r8 1 (dR G Y_X1_told cX1_told 7 [va_rf r8, .int i_1, .int i_2, .int i_3] h5 k n (fun r18 h17 k21 n22 =>
rv h17 r18 19 (f_J27_size G h17 r18 (fun i28 h27 =>
f_X0_isIn G h27 i_4 (0 : Int32) (i28 - (1 : Int32)) (fun i30 h29 =>
((i30 = 0 → rv h29 r18 19 (f_J0_isEmpty G h29 r18 (fun i36 h35 =>
((i36 = 0 → K (-1011 : Int32) h35) ∧
(¬ (i36 = 0) → K (-1015 : Int32) h35))))) ∧
(¬ (i30 = 0) → rv h29 r18 19 (dR G Y_J27_get cJ27_get 2 [va_rf r18, .int i_4] h29 k21 n22 (fun r42 h41 k45 n46 =>
(oc h41 r42 18 ∧ rv h41 r42 18 (f_J25_intValue G h41 r42 (fun i52 h51 =>
K i52 h51)))) xN))))))) xN)) ∧
(¬ (0 ≤ i6) → K i6 h5))))) ∧
(¬ (0 ≤ i_4) → ((0 ≤ (-1011 : Int32) → gR h t_0 0 0 fun r54 =>
rv h r54 1 (dR G Y_X1_told cX1_told 7 [va_rf r54, .int i_1, .int i_2, .int i_3] h k n (fun r64 h63 k67 n68 =>
rv h63 r64 19 (f_J27_size G h63 r64 (fun i74 h73 =>
f_X0_isIn G h73 i_4 (0 : Int32) (i74 - (1 : Int32)) (fun i76 h75 =>
((i76 = 0 → rv h75 r64 19 (f_J0_isEmpty G h75 r64 (fun i82 h81 =>
((i82 = 0 → K (-1011 : Int32) h81) ∧
(¬ (i82 = 0) → K (-1015 : Int32) h81))))) ∧
(¬ (i76 = 0) → rv h75 r64 19 (dR G Y_J27_get cJ27_get 2 [va_rf r64, .int i_4] h75 k67 n68 (fun r88 h87 k91 n92 =>
(oc h87 r88 18 ∧ rv h87 r88 18 (f_J25_intValue G h87 r88 (fun i98 h97 =>
K i98 h97)))) xN))))))) xN)) ∧
(¬ (0 ≤ (-1011 : Int32)) → K (-1011 : Int32) h))))
theorem m_X0_onWay {G : Gt} {h : Hp} {mc ms : Nat} {a0 : Nat} {i_1 : Int32} {i_2 : Int32} {i_3 : Int32} {i_4 : Int32} {K : Int32 → Hp → Prop} (hG : Base G) (hA : 0 ≤ mc) (hB : 0 ≤ ms) (hf : f_X0_onWay G h (mc - 0) (ms - 0) (some a0) i_1 i_2 i_3 i_4 K) : MM G Y_X0_onWay cX0_onWay 7 mc ms [.ref a0, .int i_1, .int i_2, .int i_3, .int i_4] h (kI K) xN := by
  refine mm_of hG (by decide +kernel) rfl (ac_c rfl (ac_c rfl (ac_c rfl (ac_c rfl (ac_c rfl ac_nil))))) (Nat.le_of_ble_eq_true rfl) (fun E _ _ => ?_)
  obtain ⟨k, hk9⟩ : ∃ z, z = mc - 0 := ⟨_, rfl⟩
  obtain ⟨n, hn9⟩ : ∃ z, z = ms - 0 := ⟨_, rfl⟩
  rw [← hk9, ← hn9] at hf
  refine V.weak (k' := k + 0) (n' := n + 0) ?_ (by omega) (by omega)
  show V G E Y_X0_onWay cX0_onWay 7 (QM G E (kI K) xN) h (k + 0) (n + 0) 0 [(0, .ref a0), (1, .int i_1), (2, .int i_2), (3, .int i_3), (4, .int i_4)] []
  unfold f_X0_onWay at hf
  refine v_iload (i := 4) dX0_onWay_0 rfl ?_
  refine v_if_ge 11 dX0_onWay_2 (by decide) (fun c1 => ?_) (fun c1 => ?_)
  · replace hf := hf.1 c1
    refine v_qload_n (r := (some a0)) (i := 0) dX0_onWay_11 rfl rfl ?_
    refine v_iload_n (i := 1) dX0_onWay_12 rfl rfl ?_
    refine v_iload_n (i := 2) dX0_onWay_13 rfl rfl ?_
    refine v_iload_n (i := 3) dX0_onWay_14 rfl rfl ?_
    replace hf := rv_e hf
    obtain ⟨w2, fs3, hh4, hf⟩ := hf
    refine V.addK0 ?_
    refine V.addN0 ?_
    refine v_callV (mc := 0) (ms := 0) 3 dX0_onWay_15 (m_X0_wrong hG hf) rfl hh4 rfl (lw_V q1759 q1761 qs26 q88 q1762) rfl (by decide +kernel) (by decide) rfl (cat_len (Nat.le_of_ble_eq_true rfl)) (kk_I fun i6 h5 hg => ?_) (fun _ _ _ hx => hx.elim)
    replace hf := hg
    clear hg
    refine v_istore (i := 5) (lv' := [(0, va_rf (some a0)), (1, .int i_1), (2, .int i_2), (3, .int i_3), (4, .int i_4), (5, .int i6)]) dX0_onWay_18 (Nat.le_of_ble_eq_true rfl) rfl rfl ?_
    refine v_iload (i := 5) dX0_onWay_20 rfl ?_
    refine v_if_ge 28 dX0_onWay_22 (by decide) (fun c7 => ?_) (fun c7 => ?_)
    · replace hf := hf.1 c7
      refine v_qload_n (r := (some a0)) (i := 0) dX0_onWay_28 rfl rfl ?_
      replace hf := gR_e hf
      obtain ⟨w9, fs10, r8, hh11, hk12, hf⟩ := hf
      refine v_getf (T := TX0) (ci := 0) 0 dX0_onWay_29 q275 rfl in_X0 (Nat.le_of_ble_eq_true rfl) (Or.inl rfl) hh11 hk12 ?_
      refine v_iload_n (i := 1) dX0_onWay_32 rfl rfl ?_
      refine v_iload_n (i := 2) dX0_onWay_33 rfl rfl ?_
      refine v_iload_n (i := 3) dX0_onWay_34 rfl rfl ?_
      obtain ⟨a13, rfl⟩ := rv_s hf
      replace hf := rv_e hf
      obtain ⟨w14, fs15, hh16, hf⟩ := hf
      obtain ⟨mc19, ms20, hkmc19, hnms20, hM⟩ := hf
      refine V.weak (k' := ((k - mc19) + 0) + mc19) (n' := ((n - ms20) + 0) + ms20) ?_ (by omega) (by omega)
      refine v_callV 3 dX0_onWay_35 hM rfl hh16 rfl (lw_V q1790 q1791 q1792 q89 q1793) rfl (by decide +kernel) (by decide) rfl (cat_len (Nat.le_of_ble_eq_true rfl)) (kk_R fun r18 h17 hg => ?_) (fun _ _ _ hx => hx.elim)
      have hf := hg
      clear hg
      refine v_qstore (i := 6) (r := r18) (lv' := [(0, va_rf (some a0)), (1, .int i_1), (2, .int i_2), (3, .int i_3), (4, .int i_4), (5, .int i6), (6, va_rf r18)]) dX0_onWay_38 (Nat.le_of_ble_eq_true rfl) rfl rfl ?_
      refine v_iload (i := 4) dX0_onWay_40 rfl ?_
      refine v_iconst (v := 0) dX0_onWay_42 (by decide) ?_
      refine v_qload (r := r18) (i := 6) dX0_onWay_43 rfl ?_
      obtain ⟨a23, rfl⟩ := rv_s hf
      replace hf := rv_e hf
      obtain ⟨w24, fs25, hh26, hf⟩ := hf
      refine V.addK0 ?_
      refine V.addN0 ?_
      refine v_callV (mc := 0) (ms := 0) 0 dX0_onWay_45 (m_J27_size hG hf) rfl hh26 rfl (lw_V q1807 q954 q2865 q122 q955) rfl (by decide +kernel) (by decide) rfl (cat_len (Nat.le_of_ble_eq_true rfl)) (kk_I fun i28 h27 hg => ?_) (fun _ _ _ hx => hx.elim)
      replace hf := hg
      clear hg
      refine v_iconst (v := 1) dX0_onWay_48 (by decide) ?_
      refine v_isub dX0_onWay_49 ?_
      refine V.addK0 ?_
      refine V.addN0 ?_
      refine v_callS (mc := 0) (ms := 0) 3 dX0_onWay_50 (m_X0_isIn hG hf) rfl (lw_S q306 q307 q88 q308) rfl (by decide +kernel) (by decide) rfl (cat_len (Nat.le_of_ble_eq_true rfl)) (kk_I fun i30 h29 hg => ?_) (fun _ _ _ hx => hx.elim)
      replace hf := hg
      clear hg
      refine v_if_eq 72 dX0_onWay_53 (by decide) (fun c31 => ?_) (fun c31 => ?_)
      · replace hf := hf.1 c31
        refine v_qload (r := (some a23)) (i := 6) dX0_onWay_72 rfl ?_
        replace hf := rv_e hf
        obtain ⟨w32, fs33, hh34, hf⟩ := hf
        refine V.addK0 ?_
        refine V.addN0 ?_
        refine v_callU (mc := 0) (ms := 0) 0 dX0_onWay_74 (m_J0_isEmpty hG hf) rfl hh34 rfl (lw_U q1826 q929 q931 q932 q90 q933) rfl rfl (by decide +kernel) (by decide) rfl (cat_len (Nat.le_of_ble_eq_true rfl)) (kk_I fun i36 h35 hg => ?_) (fun _ _ _ hx => hx.elim)
        replace hf := hg
        clear hg
        refine v_if_eq 86 dX0_onWay_77 (by decide) (fun c37 => ?_) (fun c37 => ?_)
        · replace hf := hf.1 c37
          refine v_sipush (v := -1011) dX0_onWay_86 (by decide) ?_
          exact v_iret dX0_onWay_89 rfl ⟨_, rfl, hf⟩
        · replace hf := hf.2 c37
          refine v_sipush (v := -1015) dX0_onWay_80 (by decide) ?_
          refine v_goto 89 dX0_onWay_83 (by decide) ?_
          exact v_iret dX0_onWay_89 rfl ⟨_, rfl, hf⟩
      · replace hf := hf.2 c31
        refine v_qload (r := (some a23)) (i := 6) dX0_onWay_56 rfl ?_
        refine v_iload (i := 4) dX0_onWay_58 rfl ?_
        replace hf := rv_e hf
        obtain ⟨w38, fs39, hh40, hf⟩ := hf
        obtain ⟨mc43, ms44, hkmc43, hnms44, hM⟩ := hf
        refine V.weak (k' := (((k - mc19) - mc43) + 0) + mc43) (n' := (((n - ms20) - ms44) + 0) + ms44) ?_ (by omega) (by omega)
        refine v_callV 1 dX0_onWay_60 hM rfl hh40 rfl (lw_V q1808 q1809 q1810 q122 q1811) rfl (by decide +kernel) (by decide) rfl (cat_len (Nat.le_of_ble_eq_true rfl)) (kk_R fun r42 h41 hg => ?_) (fun _ _ _ hx => hx.elim)
        have hf := hg
        clear hg
        obtain ⟨hoc, hf⟩ := hf
        refine v_castQS (r := r42) dX0_onWay_63 q1824 hoc rfl ?_
        obtain ⟨a47, rfl⟩ := rv_s hf
        replace hf := rv_e hf
        obtain ⟨w48, fs49, hh50, hf⟩ := hf
        refine V.addK0 ?_
        refine V.addN0 ?_
        refine v_callV (mc := 0) (ms := 0) 0 dX0_onWay_66 (m_J25_intValue hG hf) rfl hh50 rfl (lw_V q1825 q1424 q1425 q120 q1426) rfl (by decide +kernel) (by decide) rfl (cat_len (Nat.le_of_ble_eq_true rfl)) (kk_I fun i52 h51 hg => ?_) (fun _ _ _ hx => hx.elim)
        replace hf := hg
        clear hg
        refine v_goto 89 dX0_onWay_69 (by decide) ?_
        exact v_iret dX0_onWay_89 rfl ⟨_, rfl, hf⟩
    · replace hf := hf.2 c7
      refine v_iload (i := 5) dX0_onWay_25 rfl ?_
      exact v_iret dX0_onWay_27 rfl ⟨_, rfl, hf⟩
  · replace hf := hf.2 c1
    refine v_sipush (v := -1011) dX0_onWay_5 (by decide) ?_
    refine v_goto 18 dX0_onWay_8 (by decide) ?_
    refine v_istore (i := 5) (lv' := [(0, va_rf (some a0)), (1, .int i_1), (2, .int i_2), (3, .int i_3), (4, .int i_4), (5, .int (-1011 : Int32))]) dX0_onWay_18 (Nat.le_of_ble_eq_true rfl) rfl rfl ?_
    refine v_iload (i := 5) dX0_onWay_20 rfl ?_
    refine v_if_ge 28 dX0_onWay_22 (by decide) (fun c53 => ?_) (fun c53 => ?_)
    · replace hf := hf.1 c53
      refine v_qload_n (r := (some a0)) (i := 0) dX0_onWay_28 rfl rfl ?_
      replace hf := gR_e hf
      obtain ⟨w55, fs56, r54, hh57, hk58, hf⟩ := hf
      refine v_getf (T := TX0) (ci := 0) 0 dX0_onWay_29 q275 rfl in_X0 (Nat.le_of_ble_eq_true rfl) (Or.inl rfl) hh57 hk58 ?_
      refine v_iload_n (i := 1) dX0_onWay_32 rfl rfl ?_
      refine v_iload_n (i := 2) dX0_onWay_33 rfl rfl ?_
      refine v_iload_n (i := 3) dX0_onWay_34 rfl rfl ?_
      obtain ⟨a59, rfl⟩ := rv_s hf
      replace hf := rv_e hf
      obtain ⟨w60, fs61, hh62, hf⟩ := hf
      obtain ⟨mc65, ms66, hkmc65, hnms66, hM⟩ := hf
      refine V.weak (k' := ((k - mc65) + 0) + mc65) (n' := ((n - ms66) + 0) + ms66) ?_ (by omega) (by omega)
      refine v_callV 3 dX0_onWay_35 hM rfl hh62 rfl (lw_V q1790 q1791 q1792 q89 q1793) rfl (by decide +kernel) (by decide) rfl (cat_len (Nat.le_of_ble_eq_true rfl)) (kk_R fun r64 h63 hg => ?_) (fun _ _ _ hx => hx.elim)
      have hf := hg
      clear hg
      refine v_qstore (i := 6) (r := r64) (lv' := [(0, va_rf (some a0)), (1, .int i_1), (2, .int i_2), (3, .int i_3), (4, .int i_4), (5, .int (-1011 : Int32)), (6, va_rf r64)]) dX0_onWay_38 (Nat.le_of_ble_eq_true rfl) rfl rfl ?_
      refine v_iload (i := 4) dX0_onWay_40 rfl ?_
      refine v_iconst (v := 0) dX0_onWay_42 (by decide) ?_
      refine v_qload (r := r64) (i := 6) dX0_onWay_43 rfl ?_
      obtain ⟨a69, rfl⟩ := rv_s hf
      replace hf := rv_e hf
      obtain ⟨w70, fs71, hh72, hf⟩ := hf
      refine V.addK0 ?_
      refine V.addN0 ?_
      refine v_callV (mc := 0) (ms := 0) 0 dX0_onWay_45 (m_J27_size hG hf) rfl hh72 rfl (lw_V q1807 q954 q2865 q122 q955) rfl (by decide +kernel) (by decide) rfl (cat_len (Nat.le_of_ble_eq_true rfl)) (kk_I fun i74 h73 hg => ?_) (fun _ _ _ hx => hx.elim)
      replace hf := hg
      clear hg
      refine v_iconst (v := 1) dX0_onWay_48 (by decide) ?_
      refine v_isub dX0_onWay_49 ?_
      refine V.addK0 ?_
      refine V.addN0 ?_
      refine v_callS (mc := 0) (ms := 0) 3 dX0_onWay_50 (m_X0_isIn hG hf) rfl (lw_S q306 q307 q88 q308) rfl (by decide +kernel) (by decide) rfl (cat_len (Nat.le_of_ble_eq_true rfl)) (kk_I fun i76 h75 hg => ?_) (fun _ _ _ hx => hx.elim)
      replace hf := hg
      clear hg
      refine v_if_eq 72 dX0_onWay_53 (by decide) (fun c77 => ?_) (fun c77 => ?_)
      · replace hf := hf.1 c77
        refine v_qload (r := (some a69)) (i := 6) dX0_onWay_72 rfl ?_
        replace hf := rv_e hf
        obtain ⟨w78, fs79, hh80, hf⟩ := hf
        refine V.addK0 ?_
        refine V.addN0 ?_
        refine v_callU (mc := 0) (ms := 0) 0 dX0_onWay_74 (m_J0_isEmpty hG hf) rfl hh80 rfl (lw_U q1826 q929 q931 q932 q90 q933) rfl rfl (by decide +kernel) (by decide) rfl (cat_len (Nat.le_of_ble_eq_true rfl)) (kk_I fun i82 h81 hg => ?_) (fun _ _ _ hx => hx.elim)
        replace hf := hg
        clear hg
        refine v_if_eq 86 dX0_onWay_77 (by decide) (fun c83 => ?_) (fun c83 => ?_)
        · replace hf := hf.1 c83
          refine v_sipush (v := -1011) dX0_onWay_86 (by decide) ?_
          exact v_iret dX0_onWay_89 rfl ⟨_, rfl, hf⟩
        · replace hf := hf.2 c83
          refine v_sipush (v := -1015) dX0_onWay_80 (by decide) ?_
          refine v_goto 89 dX0_onWay_83 (by decide) ?_
          exact v_iret dX0_onWay_89 rfl ⟨_, rfl, hf⟩
      · replace hf := hf.2 c77
        refine v_qload (r := (some a69)) (i := 6) dX0_onWay_56 rfl ?_
        refine v_iload (i := 4) dX0_onWay_58 rfl ?_
        replace hf := rv_e hf
        obtain ⟨w84, fs85, hh86, hf⟩ := hf
        obtain ⟨mc89, ms90, hkmc89, hnms90, hM⟩ := hf
        refine V.weak (k' := (((k - mc65) - mc89) + 0) + mc89) (n' := (((n - ms66) - ms90) + 0) + ms90) ?_ (by omega) (by omega)
        refine v_callV 1 dX0_onWay_60 hM rfl hh86 rfl (lw_V q1808 q1809 q1810 q122 q1811) rfl (by decide +kernel) (by decide) rfl (cat_len (Nat.le_of_ble_eq_true rfl)) (kk_R fun r88 h87 hg => ?_) (fun _ _ _ hx => hx.elim)
        have hf := hg
        clear hg
        obtain ⟨hoc, hf⟩ := hf
        refine v_castQS (r := r88) dX0_onWay_63 q1824 hoc rfl ?_
        obtain ⟨a93, rfl⟩ := rv_s hf
        replace hf := rv_e hf
        obtain ⟨w94, fs95, hh96, hf⟩ := hf
        refine V.addK0 ?_
        refine V.addN0 ?_
        refine v_callV (mc := 0) (ms := 0) 0 dX0_onWay_66 (m_J25_intValue hG hf) rfl hh96 rfl (lw_V q1825 q1424 q1425 q120 q1426) rfl (by decide +kernel) (by decide) rfl (cat_len (Nat.le_of_ble_eq_true rfl)) (kk_I fun i98 h97 hg => ?_) (fun _ _ _ hx => hx.elim)
        replace hf := hg
        clear hg
        refine v_goto 89 dX0_onWay_69 (by decide) ?_
        exact v_iret dX0_onWay_89 rfl ⟨_, rfl, hf⟩
    · replace hf := hf.2 c53
      refine v_iload (i := 5) dX0_onWay_25 rfl ?_
      exact v_iret dX0_onWay_27 rfl ⟨_, rfl, hf⟩
abbrev Y_X0_longerBack : Yt := (yX0_longerBack, some (.int), 9, 244, [])
def f_X0_longerBack (G : Gt) (h : Hp) (k n : Nat) (t_0 : Option Nat) (i_1 : Int32) (i_2 : Int32) (i_3 : Int32) (K : Int32 → Hp → Prop) : Prop :=
rv h t_0 0 (f_X0_wrong G h t_0 i_1 i_2 i_3 (fun i5 h4 =>
((0 ≤ i5 → gR h4 t_0 0 0 fun r7 =>
rv h4 r7 1 (dI G Y_X1_longerBack cX1_longerBack 5 [va_rf r7, .int i_1, .int i_2, .int i_3] h4 k n (fun i17 h16 k20 n21 =>
K i17 h16) xN)) ∧
(¬ (0 ≤ i5) → K i5 h4))))
theorem m_X0_longerBack {G : Gt} {h : Hp} {mc ms : Nat} {a0 : Nat} {i_1 : Int32} {i_2 : Int32} {i_3 : Int32} {K : Int32 → Hp → Prop} (hG : Base G) (hA : 0 ≤ mc) (hB : 0 ≤ ms) (hf : f_X0_longerBack G h (mc - 0) (ms - 0) (some a0) i_1 i_2 i_3 K) : MM G Y_X0_longerBack cX0_longerBack 5 mc ms [.ref a0, .int i_1, .int i_2, .int i_3] h (kI K) xN := by
  refine mm_of hG (by decide +kernel) rfl (ac_c rfl (ac_c rfl (ac_c rfl (ac_c rfl ac_nil)))) (Nat.le_of_ble_eq_true rfl) (fun E _ _ => ?_)
  obtain ⟨k, hk9⟩ : ∃ z, z = mc - 0 := ⟨_, rfl⟩
  obtain ⟨n, hn9⟩ : ∃ z, z = ms - 0 := ⟨_, rfl⟩
  rw [← hk9, ← hn9] at hf
  refine V.weak (k' := k + 0) (n' := n + 0) ?_ (by omega) (by omega)
  show V G E Y_X0_longerBack cX0_longerBack 5 (QM G E (kI K) xN) h (k + 0) (n + 0) 0 [(0, .ref a0), (1, .int i_1), (2, .int i_2), (3, .int i_3)] []
  unfold f_X0_longerBack at hf
  refine v_qload_n (r := (some a0)) (i := 0) dX0_longerBack_0 rfl rfl ?_
  refine v_iload_n (i := 1) dX0_longerBack_1 rfl rfl ?_
  refine v_iload_n (i := 2) dX0_longerBack_2 rfl rfl ?_
  refine v_iload_n (i := 3) dX0_longerBack_3 rfl rfl ?_
  replace hf := rv_e hf
  obtain ⟨w1, fs2, hh3, hf⟩ := hf
  refine V.addK0 ?_
  refine V.addN0 ?_
  refine v_callV (mc := 0) (ms := 0) 3 dX0_longerBack_4 (m_X0_wrong hG hf) rfl hh3 rfl (lw_V q1759 q1761 qs26 q88 q1762) rfl (by decide +kernel) (by decide) rfl (cat_len (Nat.le_of_ble_eq_true rfl)) (kk_I fun i5 h4 hg => ?_) (fun _ _ _ hx => hx.elim)
  replace hf := hg
  clear hg
  refine v_istore (i := 4) (lv' := [(0, va_rf (some a0)), (1, .int i_1), (2, .int i_2), (3, .int i_3), (4, .int i5)]) dX0_longerBack_7 (Nat.le_of_ble_eq_true rfl) rfl rfl ?_
  refine v_iload (i := 4) dX0_longerBack_9 rfl ?_
  refine v_if_ge 19 dX0_longerBack_11 (by decide) (fun c6 => ?_) (fun c6 => ?_)
  · replace hf := hf.1 c6
    refine v_qload_n (r := (some a0)) (i := 0) dX0_longerBack_19 rfl rfl ?_
    replace hf := gR_e hf
    obtain ⟨w8, fs9, r7, hh10, hk11, hf⟩ := hf
    refine v_getf (T := TX0) (ci := 0) 0 dX0_longerBack_20 q275 rfl in_X0 (Nat.le_of_ble_eq_true rfl) (Or.inl rfl) hh10 hk11 ?_
    refine v_iload_n (i := 1) dX0_longerBack_23 rfl rfl ?_
    refine v_iload_n (i := 2) dX0_longerBack_24 rfl rfl ?_
    refine v_iload_n (i := 3) dX0_longerBack_25 rfl rfl ?_
    obtain ⟨a12, rfl⟩ := rv_s hf
    replace hf := rv_e hf
    obtain ⟨w13, fs14, hh15, hf⟩ := hf
    obtain ⟨mc18, ms19, hkmc18, hnms19, hM⟩ := hf
    refine V.weak (k' := ((k - mc18) + 0) + mc18) (n' := ((n - ms19) + 0) + ms19) ?_ (by omega) (by omega)
    refine v_callV 3 dX0_longerBack_26 hM rfl hh15 rfl (lw_V q1831 q1832 q1833 q89 q1834) rfl (by decide +kernel) (by decide) rfl (cat_len (Nat.le_of_ble_eq_true rfl)) (kk_I fun i17 h16 hg => ?_) (fun _ _ _ hx => hx.elim)
    have hf := hg
    clear hg
    exact v_iret dX0_longerBack_29 rfl ⟨_, rfl, hf⟩
  · replace hf := hf.2 c6
    refine v_iload (i := 4) dX0_longerBack_14 rfl ?_
    refine v_goto 29 dX0_longerBack_16 (by decide) ?_
    exact v_iret dX0_longerBack_29 rfl ⟨_, rfl, hf⟩
abbrev Y_X0_reach : Yt := (yX0_reach, some (.int), 9, 240, [])
def f_X0_reach (G : Gt) (h : Hp) (k n : Nat) (t_0 : Option Nat) (K : Int32 → Hp → Prop) : Prop :=
gR h t_0 0 0 fun r1 =>
rv h r1 1 (dI G Y_X1_reach cX1_reach 4 [va_rf r1] h k n (fun i11 h10 k14 n15 =>
K i11 h10) xN)
theorem m_X0_reach {G : Gt} {h : Hp} {mc ms : Nat} {a0 : Nat} {K : Int32 → Hp → Prop} (hG : Base G) (hA : 0 ≤ mc) (hB : 0 ≤ ms) (hf : f_X0_reach G h (mc - 0) (ms - 0) (some a0) K) : MM G Y_X0_reach cX0_reach 1 mc ms [.ref a0] h (kI K) xN := by
  refine mm_of hG (by decide +kernel) rfl (ac_c rfl ac_nil) (Nat.le_of_ble_eq_true rfl) (fun E _ _ => ?_)
  obtain ⟨k, hk9⟩ : ∃ z, z = mc - 0 := ⟨_, rfl⟩
  obtain ⟨n, hn9⟩ : ∃ z, z = ms - 0 := ⟨_, rfl⟩
  rw [← hk9, ← hn9] at hf
  refine V.weak (k' := k + 0) (n' := n + 0) ?_ (by omega) (by omega)
  show V G E Y_X0_reach cX0_reach 1 (QM G E (kI K) xN) h (k + 0) (n + 0) 0 [(0, .ref a0)] []
  unfold f_X0_reach at hf
  refine v_qload_n (r := (some a0)) (i := 0) dX0_reach_0 rfl rfl ?_
  replace hf := gR_e hf
  obtain ⟨w2, fs3, r1, hh4, hk5, hf⟩ := hf
  refine v_getf (T := TX0) (ci := 0) 0 dX0_reach_1 q275 rfl in_X0 (Nat.le_of_ble_eq_true rfl) (Or.inl rfl) hh4 hk5 ?_
  obtain ⟨a6, rfl⟩ := rv_s hf
  replace hf := rv_e hf
  obtain ⟨w7, fs8, hh9, hf⟩ := hf
  obtain ⟨mc12, ms13, hkmc12, hnms13, hM⟩ := hf
  refine V.weak (k' := ((k - mc12) + 0) + mc12) (n' := ((n - ms13) + 0) + ms13) ?_ (by omega) (by omega)
  refine v_callV 0 dX0_reach_4 hM rfl hh9 rfl (lw_V q1839 q1840 q1841 q89 q1842) rfl (by decide +kernel) (by decide) rfl (cat_len (Nat.le_of_ble_eq_true rfl)) (kk_I fun i11 h10 hg => ?_) (fun _ _ _ hx => hx.elim)
  have hf := hg
  clear hg
  exact v_iret dX0_reach_7 rfl ⟨_, rfl, hf⟩
abbrev Y_X0_nearestKey : Yt := (yX0_nearestKey, some (.int), 9, 242, [])
def f_X0_nearestKey (G : Gt) (h : Hp) (k n : Nat) (t_0 : Option Nat) (i_1 : Int32) (K : Int32 → Hp → Prop) : Prop :=
f_X0_isColour G h i_1 (fun i2 h1 =>
((i2 = 0 → K (-1012 : Int32) h1) ∧
(¬ (i2 = 0) → gR h1 t_0 0 0 fun r4 =>
rv h1 r4 1 (dI G Y_X1_nearestKey cX1_nearestKey 6 [va_rf r4, .int i_1] h1 k n (fun i14 h13 k17 n18 =>
K i14 h13) xN))))
theorem m_X0_nearestKey {G : Gt} {h : Hp} {mc ms : Nat} {a0 : Nat} {i_1 : Int32} {K : Int32 → Hp → Prop} (hG : Base G) (hA : 0 ≤ mc) (hB : 0 ≤ ms) (hf : f_X0_nearestKey G h (mc - 0) (ms - 0) (some a0) i_1 K) : MM G Y_X0_nearestKey cX0_nearestKey 2 mc ms [.ref a0, .int i_1] h (kI K) xN := by
  refine mm_of hG (by decide +kernel) rfl (ac_c rfl (ac_c rfl ac_nil)) (Nat.le_of_ble_eq_true rfl) (fun E _ _ => ?_)
  obtain ⟨k, hk9⟩ : ∃ z, z = mc - 0 := ⟨_, rfl⟩
  obtain ⟨n, hn9⟩ : ∃ z, z = ms - 0 := ⟨_, rfl⟩
  rw [← hk9, ← hn9] at hf
  refine V.weak (k' := k + 0) (n' := n + 0) ?_ (by omega) (by omega)
  show V G E Y_X0_nearestKey cX0_nearestKey 2 (QM G E (kI K) xN) h (k + 0) (n + 0) 0 [(0, .ref a0), (1, .int i_1)] []
  unfold f_X0_nearestKey at hf
  refine v_iload_n (i := 1) dX0_nearestKey_0 rfl rfl ?_
  refine V.addK0 ?_
  refine V.addN0 ?_
  refine v_callS (mc := 0) (ms := 0) 1 dX0_nearestKey_1 (m_X0_isColour hG hf) rfl (lw_S q649 q650 q88 q651) rfl (by decide +kernel) (by decide) rfl (cat_len (Nat.le_of_ble_eq_true rfl)) (kk_I fun i2 h1 hg => ?_) (fun _ _ _ hx => hx.elim)
  replace hf := hg
  clear hg
  refine v_if_eq 18 dX0_nearestKey_4 (by decide) (fun c3 => ?_) (fun c3 => ?_)
  · replace hf := hf.1 c3
    refine v_sipush (v := -1012) dX0_nearestKey_18 (by decide) ?_
    exact v_iret dX0_nearestKey_21 rfl ⟨_, rfl, hf⟩
  · replace hf := hf.2 c3
    refine v_qload_n (r := (some a0)) (i := 0) dX0_nearestKey_7 rfl rfl ?_
    replace hf := gR_e hf
    obtain ⟨w5, fs6, r4, hh7, hk8, hf⟩ := hf
    refine v_getf (T := TX0) (ci := 0) 0 dX0_nearestKey_8 q275 rfl in_X0 (Nat.le_of_ble_eq_true rfl) (Or.inl rfl) hh7 hk8 ?_
    refine v_iload_n (i := 1) dX0_nearestKey_11 rfl rfl ?_
    obtain ⟨a9, rfl⟩ := rv_s hf
    replace hf := rv_e hf
    obtain ⟨w10, fs11, hh12, hf⟩ := hf
    obtain ⟨mc15, ms16, hkmc15, hnms16, hM⟩ := hf
    refine V.weak (k' := ((k - mc15) + 0) + mc15) (n' := ((n - ms16) + 0) + ms16) ?_ (by omega) (by omega)
    refine v_callV 1 dX0_nearestKey_12 hM rfl hh12 rfl (lw_V q1952 q1953 q1954 q89 q1955) rfl (by decide +kernel) (by decide) rfl (cat_len (Nat.le_of_ble_eq_true rfl)) (kk_I fun i14 h13 hg => ?_) (fun _ _ _ hx => hx.elim)
    have hf := hg
    clear hg
    refine v_goto 21 dX0_nearestKey_15 (by decide) ?_
    exact v_iret dX0_nearestKey_21 rfl ⟨_, rfl, hf⟩
abbrev Y_X0_ranked : Yt := (yX0_ranked, some (.int), 9, 242, [])
def f_X0_ranked (G : Gt) (h : Hp) (k n : Nat) (t_0 : Option Nat) (i_1 : Int32) (K : Int32 → Hp → Prop) : Prop :=
gR h t_0 0 0 fun r1 =>
rv h r1 1 (dI G Y_X1_ranked cX1_ranked 6 [va_rf r1, .int i_1] h k n (fun i11 h10 k14 n15 =>
K i11 h10) xN)
theorem m_X0_ranked {G : Gt} {h : Hp} {mc ms : Nat} {a0 : Nat} {i_1 : Int32} {K : Int32 → Hp → Prop} (hG : Base G) (hA : 0 ≤ mc) (hB : 0 ≤ ms) (hf : f_X0_ranked G h (mc - 0) (ms - 0) (some a0) i_1 K) : MM G Y_X0_ranked cX0_ranked 2 mc ms [.ref a0, .int i_1] h (kI K) xN := by
  refine mm_of hG (by decide +kernel) rfl (ac_c rfl (ac_c rfl ac_nil)) (Nat.le_of_ble_eq_true rfl) (fun E _ _ => ?_)
  obtain ⟨k, hk9⟩ : ∃ z, z = mc - 0 := ⟨_, rfl⟩
  obtain ⟨n, hn9⟩ : ∃ z, z = ms - 0 := ⟨_, rfl⟩
  rw [← hk9, ← hn9] at hf
  refine V.weak (k' := k + 0) (n' := n + 0) ?_ (by omega) (by omega)
  show V G E Y_X0_ranked cX0_ranked 2 (QM G E (kI K) xN) h (k + 0) (n + 0) 0 [(0, .ref a0), (1, .int i_1)] []
  unfold f_X0_ranked at hf
  refine v_qload_n (r := (some a0)) (i := 0) dX0_ranked_0 rfl rfl ?_
  replace hf := gR_e hf
  obtain ⟨w2, fs3, r1, hh4, hk5, hf⟩ := hf
  refine v_getf (T := TX0) (ci := 0) 0 dX0_ranked_1 q275 rfl in_X0 (Nat.le_of_ble_eq_true rfl) (Or.inl rfl) hh4 hk5 ?_
  refine v_iload_n (i := 1) dX0_ranked_4 rfl rfl ?_
  obtain ⟨a6, rfl⟩ := rv_s hf
  replace hf := rv_e hf
  obtain ⟨w7, fs8, hh9, hf⟩ := hf
  obtain ⟨mc12, ms13, hkmc12, hnms13, hM⟩ := hf
  refine V.weak (k' := ((k - mc12) + 0) + mc12) (n' := ((n - ms13) + 0) + ms13) ?_ (by omega) (by omega)
  refine v_callV 1 dX0_ranked_5 hM rfl hh9 rfl (lw_V q1960 q1961 q1962 q89 q1963) rfl (by decide +kernel) (by decide) rfl (cat_len (Nat.le_of_ble_eq_true rfl)) (kk_I fun i11 h10 hg => ?_) (fun _ _ _ hx => hx.elim)
  have hf := hg
  clear hg
  exact v_iret dX0_ranked_8 rfl ⟨_, rfl, hf⟩
abbrev Y_X0_append : Yt := (yX0_append, some (.int), 7, 174, [])
def f_X0_append (G : Gt) (h : Hp) (t_0 : Option Nat) (i_1 : Int32) (K : Int32 → Hp → Prop) : Prop :=
f_X0_isIn G h i_1 (32 : Int32) (126 : Int32) (fun i2 h1 =>
((¬ (i2 = 0) → gR h1 t_0 0 5 fun r4 =>
rv h1 r4 13 (f_J5_length G h1 r4 (fun i14 h13 =>
((¬ (i14 = (60 : Int32)) → gR h13 t_0 0 5 fun r16 =>
rv h13 r16 13 (f_J5_append G h13 r16 ((i_1.toUInt32 % 65536).toInt32) (fun r26 h25 =>
gR h25 t_0 0 5 fun r27 =>
rv h25 r27 13 (f_J5_length G h25 r27 (fun i37 h36 =>
K i37 h36))))) ∧
(i14 = (60 : Int32) → K (-1013 : Int32) h13))))) ∧
(i2 = 0 → K (-1012 : Int32) h1)))
theorem m_X0_append {G : Gt} {h : Hp} {a0 : Nat} {i_1 : Int32} {K : Int32 → Hp → Prop} (hG : Base G) (hf : f_X0_append G h (some a0) i_1 K) : MM G Y_X0_append cX0_append 2 1 100 [.ref a0, .int i_1] h (kI K) xN := by
  refine mm_of hG (by decide +kernel) rfl (ac_c rfl (ac_c rfl ac_nil)) (Nat.le_of_ble_eq_true rfl) (fun E _ _ => ?_)
  show V G E Y_X0_append cX0_append 2 (QM G E (kI K) xN) h 1 100 0 [(0, .ref a0), (1, .int i_1)] []
  unfold f_X0_append at hf
  refine v_iload_n (i := 1) dX0_append_0 rfl rfl ?_
  refine v_bipush (v := 32) dX0_append_1 (by decide) ?_
  refine v_bipush (v := 126) dX0_append_3 (by decide) ?_
  refine V.addK0 ?_
  refine V.addN0 ?_
  refine v_callS (mc := 0) (ms := 0) 3 dX0_append_5 (m_X0_isIn hG hf) rfl (lw_S q306 q307 q88 q308) rfl (by decide +kernel) (by decide) rfl (cat_len (Nat.le_of_ble_eq_true rfl)) (kk_I fun i2 h1 hg => ?_) (fun _ _ _ hx => hx.elim)
  replace hf := hg
  clear hg
  refine v_if_ne 15 dX0_append_8 (by decide) (fun c3 => ?_) (fun c3 => ?_)
  · replace hf := hf.1 c3
    refine v_qload_n (r := (some a0)) (i := 0) dX0_append_15 rfl rfl ?_
    replace hf := gR_e hf
    obtain ⟨w5, fs6, r4, hh7, hk8, hf⟩ := hf
    refine v_getf (T := TX0) (ci := 0) 5 dX0_append_16 q281 rfl in_X0 (Nat.le_of_ble_eq_true rfl) (Or.inl rfl) hh7 hk8 ?_
    obtain ⟨a9, rfl⟩ := rv_s hf
    replace hf := rv_e hf
    obtain ⟨w10, fs11, hh12, hf⟩ := hf
    refine V.addK0 ?_
    refine V.addN0 ?_
    refine v_callV (mc := 0) (ms := 0) 0 dX0_append_19 (m_J5_length hG hf) rfl hh12 rfl (lw_V q1971 q1972 q1973 q95 q1974) rfl (by decide +kernel) (by decide) rfl (cat_len (Nat.le_of_ble_eq_true rfl)) (kk_I fun i14 h13 hg => ?_) (fun _ _ _ hx => hx.elim)
    replace hf := hg
    clear hg
    refine v_bipush (v := 60) dX0_append_22 (by decide) ?_
    refine v_icmp_ne 31 dX0_append_24 (by decide) (fun c15 => ?_) (fun c15 => ?_)
    · replace hf := hf.1 c15
      refine v_qload_n (r := (some a0)) (i := 0) dX0_append_31 rfl rfl ?_
      replace hf := gR_e hf
      obtain ⟨w17, fs18, r16, hh19, hk20, hf⟩ := hf
      refine v_getf (T := TX0) (ci := 0) 5 dX0_append_32 q281 rfl in_X0 (Nat.le_of_ble_eq_true rfl) (Or.inl rfl) hh19 hk20 ?_
      refine v_iload_n (i := 1) dX0_append_35 rfl rfl ?_
      refine v_i2c (v := (i_1.toUInt32 % 65536).toInt32) dX0_append_36 rfl ?_
      obtain ⟨a21, rfl⟩ := rv_s hf
      replace hf := rv_e hf
      obtain ⟨w22, fs23, hh24, hf⟩ := hf
      refine v_callV (mc := 1) (ms := 100) 1 dX0_append_37 (m_J5_append hG hf) rfl hh24 rfl (lw_V q1978 q1979 q1980 q95 q1981) rfl (by decide +kernel) (by decide) rfl (cat_len (Nat.le_of_ble_eq_true rfl)) (kk_R fun r26 h25 hg => ?_) (fun _ _ _ hx => hx.elim)
      replace hf := hg
      clear hg
      refine v_pop dX0_append_40 (rf_cat _) ?_
      refine v_qload_n (r := (some a0)) (i := 0) dX0_append_41 rfl rfl ?_
      replace hf := gR_e hf
      obtain ⟨w28, fs29, r27, hh30, hk31, hf⟩ := hf
      refine v_getf (T := TX0) (ci := 0) 5 dX0_append_42 q281 rfl in_X0 (Nat.le_of_ble_eq_true rfl) (Or.inl rfl) hh30 hk31 ?_
      obtain ⟨a32, rfl⟩ := rv_s hf
      replace hf := rv_e hf
      obtain ⟨w33, fs34, hh35, hf⟩ := hf
      refine V.addK0 ?_
      refine V.addN0 ?_
      refine v_callV (mc := 0) (ms := 0) 0 dX0_append_45 (m_J5_length hG hf) rfl hh35 rfl (lw_V q1971 q1972 q1973 q95 q1974) rfl (by decide +kernel) (by decide) rfl (cat_len (Nat.le_of_ble_eq_true rfl)) (kk_I fun i37 h36 hg => ?_) (fun _ _ _ hx => hx.elim)
      replace hf := hg
      clear hg
      exact v_iret dX0_append_48 rfl ⟨_, rfl, hf⟩
    · replace hf := hf.2 c15
      refine v_sipush (v := -1013) dX0_append_27 (by decide) ?_
      exact v_iret dX0_append_30 rfl ⟨_, rfl, hf⟩
  · replace hf := hf.2 c3
    refine v_sipush (v := -1012) dX0_append_11 (by decide) ?_
    exact v_iret dX0_append_14 rfl ⟨_, rfl, hf⟩
abbrev Y_X0_run : Yt := (yX0_run, some (.int), 10, 241, [(0, 80, 91, 225), (0, 80, 111, 47), (0, 80, 128, 0), (91, 101, 128, 0), (111, 118, 128, 0), (128, 130, 128, 0)])
def g_X0_run_0 (G : Gt) (E : Ev) (h : Hp) (k n : Nat) (a0 : Nat) (K : Int32 → Hp → Prop) : Prop :=
nO h 7 [.int 0, .null] fun a1 h2 =>
f_X7_init G h2 (some a1) (some a0) (fun h3 =>
rv h3 (some a1) 7 (dRx G Y_X7_commands cX7_commands 2 [va_rf (some a1)] h3 k n (fun r8 h7 k11 n12 =>
gR h7 (some a0) 0 0 fun r34 =>
rv h7 r34 1 (dR G Y_X1_copy cX1_copy 4 [va_rf r34] h7 k11 n12 (fun r44 h43 k47 n48 =>
V G E Y_X0_run cX0_run 7 (QM G E (kI K) xN) h43 k47 n48 22 [(0, .ref a0), (1, va_rf r8), (2, va_rf r44), (3, .int (0 : Int32))] []) xN)) (fun c13 q14 h7 k11 n12 =>
(c13 = 8 ∧ gI h7 (some q14) 8 6 fun i15 =>
gR h7 (some a0) 0 5 fun r20 =>
rv h7 r20 13 (dV G Y_J5_setLength cJ5_setLength 2 [va_rf r20, .int (0 : Int32)] h7 k11 n12 (fun h29 k32 n33 =>
K ((-2000 : Int32) - i15) h29) xN)))))
theorem s_X0_run_0 {G : Gt} {E : Ev} {h : Hp} {k0 n0 : Nat} {a0 : Nat} {K : Int32 → Hp → Prop} (hG : Base G) (hA : 1 ≤ k0) (hB : 2 ≤ n0) (hf : g_X0_run_0 G E h (k0 - 1) (n0 - 2) a0 K) : V G E Y_X0_run cX0_run 7 (QM G E (kI K) xN) h k0 n0 0 [(0, .ref a0)] [] := by
  obtain ⟨k, hk9⟩ : ∃ z, z = k0 - 1 := ⟨_, rfl⟩
  obtain ⟨n, hn9⟩ : ∃ z, z = n0 - 2 := ⟨_, rfl⟩
  rw [← hk9, ← hn9] at hf
  refine V.weak (k' := k + 1) (n' := n + 2) ?_ (by omega) (by omega)
  unfold g_X0_run_0 at hf
  refine v_new (N := 2) (fs := [.int 0, .null]) (ci := 7) dX0_run_0 q2043 q2044 q139 rfl in_X7 tyX7 tyX7_ok rfl (fun a1 ha1 => ?_)
  replace hf := hf a1 ha1
  obtain ⟨h2, eh2⟩ : ∃ z, z = hs h a1 (true, .inr (7, [.int 0, .null])) := ⟨_, rfl⟩
  try rw [← eh2] at hf
  rw [← eh2]
  refine v_dup dX0_run_3 rfl ?_
  refine v_aload_n (i := 0) dX0_run_4 rfl rfl ?_
  refine V.addK0 ?_
  refine V.addN0 ?_
  refine v_callIN (mc := 0) (ms := 0) 1 dX0_run_5 (m_X7_init hG hf) rfl (lw_meth q2047) rfl q139 q2045 q2046 rfl rfl (by decide +kernel) (by decide) rfl (cat_len (Nat.le_of_ble_eq_true rfl)) (kk_V fun h3 hg => ?_) (fun _ _ _ hx => hx.elim)
  replace hf := hg
  clear hg
  replace hf := rv_e hf
  obtain ⟨w4, fs5, hh6, hf⟩ := hf
  obtain ⟨mc9, ms10, hkmc9, hnms10, hM⟩ := hf
  refine V.weak (k' := ((k - mc9) + 0) + mc9) (n' := ((n - ms10) + 0) + ms10) ?_ (by omega) (by omega)
  refine v_callV 0 dX0_run_8 hM rfl hh6 rfl (lw_V q2056 q2057 q2058 q139 q2059) rfl (by decide +kernel) (by decide) rfl (cat_len (Nat.le_of_ble_eq_true rfl)) (kk_R fun r8 h7 hg => ?_) (fun c13 q14 h7 hg => ?_)
  · have hf := hg
    clear hg
    refine v_qstore_n (i := 1) (r := r8) (lv' := [(0, .ref a0), (1, va_rf r8)]) dX0_run_11 rfl (Nat.le_of_ble_eq_true rfl) rfl rfl ?_
    refine v_aload_n (i := 0) dX0_run_12 rfl rfl ?_
    replace hf := gR_e hf
    obtain ⟨w35, fs36, r34, hh37, hk38, hf⟩ := hf
    refine v_getf (T := TX0) (ci := 0) 0 dX0_run_13 q275 rfl in_X0 (Nat.le_of_ble_eq_true rfl) (Or.inl rfl) hh37 hk38 ?_
    obtain ⟨a39, rfl⟩ := rv_s hf
    replace hf := rv_e hf
    obtain ⟨w40, fs41, hh42, hf⟩ := hf
    obtain ⟨mc45, ms46, hkmc45, hnms46, hM⟩ := hf
    refine V.weak (k' := (((k - mc9) - mc45) + 0) + mc45) (n' := (((n - ms10) - ms46) + 0) + ms46) ?_ (by omega) (by omega)
    refine v_callV 0 dX0_run_16 hM rfl hh42 rfl (lw_V q309 q310 q311 q89 q312) rfl (by decide +kernel) (by decide) rfl (cat_len (Nat.le_of_ble_eq_true rfl)) (kk_R fun r44 h43 hg => ?_) (fun _ _ _ hx => hx.elim)
    have hf := hg
    clear hg
    refine v_qstore_n (i := 2) (r := r44) (lv' := [(0, .ref a0), (1, va_rf r8), (2, va_rf r44)]) dX0_run_19 rfl (Nat.le_of_ble_eq_true rfl) rfl rfl ?_
    refine v_iconst (v := 0) dX0_run_20 (by decide) ?_
    refine v_istore_n (i := 3) (lv' := [(0, .ref a0), (1, va_rf r8), (2, va_rf r44), (3, .int (0 : Int32))]) dX0_run_21 rfl (Nat.le_of_ble_eq_true rfl) rfl rfl ?_
    exact V.weak hf (by omega) (by omega)
  · have hf := hg
    clear hg
    obtain ⟨rfl, hf⟩ := hf
    refine vx_caught [] _ _ rfl (fun _ h => nomatch h) (by decide) (by decide) q2042 rfl q2113 ?_
    refine v_astore_n (i := 1) (lv' := [(0, .ref a0), (1, .ref q14)]) dX0_run_91 rfl (Nat.le_of_ble_eq_true rfl) rfl rfl ?_
    refine v_sipush (v := -2000) dX0_run_92 (by decide) ?_
    refine v_aload_n (i := 1) dX0_run_95 rfl rfl ?_
    replace hf := gI_e hf
    obtain ⟨w16, fs17, i15, hh18, hk19, hf⟩ := hf
    refine v_getfN (T := TX8) (ci := 8) 6 dX0_run_96 q2125 rfl in_X8 (Nat.le_of_ble_eq_true rfl) (Or.inl rfl) hh18 hk19 ?_
    refine v_isub dX0_run_99 ?_
    refine v_istore_n (i := 2) (lv' := [(0, .ref a0), (1, .ref q14), (2, .int ((-2000 : Int32) - i15))]) dX0_run_100 rfl (Nat.le_of_ble_eq_true rfl) rfl rfl ?_
    refine v_aload_n (i := 0) dX0_run_101 rfl rfl ?_
    replace hf := gR_e hf
    obtain ⟨w21, fs22, r20, hh23, hk24, hf⟩ := hf
    refine v_getf (T := TX0) (ci := 0) 5 dX0_run_102 q281 rfl in_X0 (Nat.le_of_ble_eq_true rfl) (Or.inl rfl) hh23 hk24 ?_
    refine v_iconst (v := 0) dX0_run_105 (by decide) ?_
    obtain ⟨a25, rfl⟩ := rv_s hf
    replace hf := rv_e hf
    obtain ⟨w26, fs27, hh28, hf⟩ := hf
    obtain ⟨mc30, ms31, hkmc30, hnms31, hM⟩ := hf
    refine V.weak (k' := (((k - mc9) - mc30) + 0) + mc30) (n' := (((n - ms10) - ms31) + 0) + ms31) ?_ (by omega) (by omega)
    refine v_callV 1 dX0_run_106 hM rfl hh28 rfl (lw_V q2212 q2213 q2214 q95 q2215) rfl (by decide +kernel) (by decide) rfl (cat_len (Nat.le_of_ble_eq_true rfl)) (kk_V fun h29 hg => ?_) (fun _ _ _ hx => hx.elim)
    have hf := hg
    clear hg
    refine v_iload_n (i := 2) dX0_run_109 rfl rfl ?_
    exact v_iret dX0_run_110 rfl ⟨_, rfl, hf⟩
def g_X0_run_22 (G : Gt) (E : Ev) (h : Hp) (k n : Nat) (a0 : Nat) (r_1 : Option Nat) (r_2 : Option Nat) (i_3 : Int32) (K : Int32 → Hp → Prop) : Prop :=
rv h r_1 19 (f_J0_isEmpty G h r_1 (fun i6 h5 =>
((¬ (i6 = 0) → gR h5 (some a0) 0 0 fun r8 =>
pF h5 (some a0) 0 0 (va_rf r_2) fun h15 =>
rv h15 (some a0) 0 (f_X0_changed G h15 (some a0) r8 i_3 (fun i20 h19 =>
gR h19 (some a0) 0 5 fun r21 =>
rv h19 r21 13 (dV G Y_J5_setLength cJ5_setLength 2 [va_rf r21, .int (0 : Int32)] h19 k n (fun h30 k33 n34 =>
K i20 h30) xN)))) ∧
(i6 = 0 → rv h5 r_1 19 (f_J27_removeFirst G h5 r_1 (fun r39 h38 =>
(oc h38 r39 9 ∧ rv h38 r39 9 (dI G Y_X9_isCarriedOut cX9_isCarriedOut 4 [va_rf r39, va_rf r_2] h38 k n (fun i45 h44 k48 n49 =>
((¬ (i45 = 0) → f_X0_refuse G h44 (0 : Int32) (12 : Int32) i_3 (fun h51 =>
V G E Y_X0_run cX0_run 7 (QM G E (kI K) xN) h51 k48 n49 22 [(0, .ref a0), (1, va_rf r_1), (2, va_rf r_2), (3, .int (i_3 + (1 : Int32)))] []) (fun c52 q53 h51 =>
(c52 = 4 ∧ rv h51 (some a0) 0 (f_X0_refused G h51 (some a0) (some q53) (fun i58 h57 =>
gR h57 (some a0) 0 5 fun r59 =>
rv h57 r59 13 (dV G Y_J5_setLength cJ5_setLength 2 [va_rf r59, .int (0 : Int32)] h57 k48 n49 (fun h68 k71 n72 =>
K i58 h68) xN)))))) ∧
(i45 = 0 → f_X0_refuse G h44 (1 : Int32) (12 : Int32) i_3 (fun h73 =>
V G E Y_X0_run cX0_run 7 (QM G E (kI K) xN) h73 k48 n49 22 [(0, .ref a0), (1, va_rf r_1), (2, va_rf r_2), (3, .int (i_3 + (1 : Int32)))] []) (fun c74 q75 h73 =>
(c74 = 4 ∧ rv h73 (some a0) 0 (f_X0_refused G h73 (some a0) (some q75) (fun i80 h79 =>
gR h79 (some a0) 0 5 fun r81 =>
rv h79 r81 13 (dV G Y_J5_setLength cJ5_setLength 2 [va_rf r81, .int (0 : Int32)] h79 k48 n49 (fun h90 k93 n94 =>
K i80 h90) xN)))))))) xN))))))))
theorem s_X0_run_22 {G : Gt} {E : Ev} {h : Hp} {k0 n0 : Nat} {a0 : Nat} {r_1 : Option Nat} {r_2 : Option Nat} {i_3 : Int32} {K : Int32 → Hp → Prop} (hG : Base G) (hA : 1 ≤ k0) (hB : 8 ≤ n0) (hf : g_X0_run_22 G E h (k0 - 1) (n0 - 8) a0 r_1 r_2 i_3 K) : V G E Y_X0_run cX0_run 7 (QM G E (kI K) xN) h k0 n0 22 [(0, .ref a0), (1, va_rf r_1), (2, va_rf r_2), (3, .int i_3)] [] := by
  obtain ⟨k, hk9⟩ : ∃ z, z = k0 - 1 := ⟨_, rfl⟩
  obtain ⟨n, hn9⟩ : ∃ z, z = n0 - 8 := ⟨_, rfl⟩
  rw [← hk9, ← hn9] at hf
  refine V.weak (k' := k + 1) (n' := n + 8) ?_ (by omega) (by omega)
  unfold g_X0_run_22 at hf
  refine v_qload_n (r := r_1) (i := 1) dX0_run_22 rfl rfl ?_
  obtain ⟨a1, rfl⟩ := rv_s hf
  replace hf := rv_e hf
  obtain ⟨w2, fs3, hh4, hf⟩ := hf
  refine V.addK0 ?_
  refine V.addN0 ?_
  refine v_callU (mc := 0) (ms := 0) 0 dX0_run_23 (m_J0_isEmpty hG hf) rfl hh4 rfl (lw_U q1826 q929 q931 q932 q90 q933) rfl rfl (by decide +kernel) (by decide) rfl (cat_len (Nat.le_of_ble_eq_true rfl)) (kk_I fun i6 h5 hg => ?_) (fun _ _ _ hx => hx.elim)
  replace hf := hg
  clear hg
  refine v_if_ne 60 dX0_run_26 (by decide) (fun c7 => ?_) (fun c7 => ?_)
  · replace hf := hf.1 c7
    refine v_aload_n (i := 0) dX0_run_60 rfl rfl ?_
    replace hf := gR_e hf
    obtain ⟨w9, fs10, r8, hh11, hk12, hf⟩ := hf
    refine v_getf (T := TX0) (ci := 0) 0 dX0_run_61 q275 rfl in_X0 (Nat.le_of_ble_eq_true rfl) (Or.inl rfl) hh11 hk12 ?_
    refine v_qstore (i := 4) (r := r8) (lv' := [(0, .ref a0), (1, va_rf (some a1)), (2, va_rf r_2), (3, .int i_3), (4, va_rf r8)]) dX0_run_64 (Nat.le_of_ble_eq_true rfl) rfl rfl ?_
    refine v_aload_n (i := 0) dX0_run_66 rfl rfl ?_
    refine v_qload_n (r := r_2) (i := 2) dX0_run_67 rfl rfl ?_
    replace hf := pF_e hf
    obtain ⟨fs13, hh14, hf⟩ := hf
    refine v_putf (v := va_rf r_2) (T := TX0) (ci := 0) (ty := .object "ParityMaze$Maze") 0 dX0_run_68 q275 rfl in_X0 tyX0 tyX0_ok nmX0 (Nat.le_of_ble_eq_true rfl) (Or.inl rfl) rfl (by decide +kernel) (rf_nar _ _) (rf_fit _ _) hh14 ?_
    obtain ⟨h15, eh15⟩ : ∃ z, z = hs h5 a0 (true, .inr (0, fs13.set 0 (va_rf r_2))) := ⟨_, rfl⟩
    try rw [← eh15] at hf
    rw [← eh15]
    refine v_aload_n (i := 0) dX0_run_71 rfl rfl ?_
    refine v_qload (r := r8) (i := 4) dX0_run_72 rfl ?_
    refine v_iload_n (i := 3) dX0_run_74 rfl rfl ?_
    replace hf := rv_e hf
    obtain ⟨w16, fs17, hh18, hf⟩ := hf
    refine V.addK0 ?_
    refine V.addN0 ?_
    refine v_callV (mc := 0) (ms := 0) 2 dX0_run_75 (m_X0_changed hG hf) rfl hh18 rfl (lw_V q585 q587 qs4 q88 q588) rfl (by decide +kernel) (by decide) rfl (cat_len (Nat.le_of_ble_eq_true rfl)) (kk_I fun i20 h19 hg => ?_) (fun _ _ _ hx => hx.elim)
    replace hf := hg
    clear hg
    refine v_istore (i := 5) (lv' := [(0, .ref a0), (1, va_rf (some a1)), (2, va_rf r_2), (3, .int i_3), (4, va_rf r8), (5, .int i20)]) dX0_run_78 (Nat.le_of_ble_eq_true rfl) rfl rfl ?_
    refine v_aload_n (i := 0) dX0_run_80 rfl rfl ?_
    replace hf := gR_e hf
    obtain ⟨w22, fs23, r21, hh24, hk25, hf⟩ := hf
    refine v_getf (T := TX0) (ci := 0) 5 dX0_run_81 q281 rfl in_X0 (Nat.le_of_ble_eq_true rfl) (Or.inl rfl) hh24 hk25 ?_
    refine v_iconst (v := 0) dX0_run_84 (by decide) ?_
    obtain ⟨a26, rfl⟩ := rv_s hf
    replace hf := rv_e hf
    obtain ⟨w27, fs28, hh29, hf⟩ := hf
    obtain ⟨mc31, ms32, hkmc31, hnms32, hM⟩ := hf
    refine V.weak (k' := ((k - mc31) + 0) + mc31) (n' := ((n - ms32) + 0) + ms32) ?_ (by omega) (by omega)
    refine v_callV 1 dX0_run_85 hM rfl hh29 rfl (lw_V q2212 q2213 q2214 q95 q2215) rfl (by decide +kernel) (by decide) rfl (cat_len (Nat.le_of_ble_eq_true rfl)) (kk_V fun h30 hg => ?_) (fun _ _ _ hx => hx.elim)
    have hf := hg
    clear hg
    refine v_iload (i := 5) dX0_run_88 rfl ?_
    exact v_iret dX0_run_90 rfl ⟨_, rfl, hf⟩
  · replace hf := hf.2 c7
    refine v_qload_n (r := (some a1)) (i := 1) dX0_run_29 rfl rfl ?_
    replace hf := rv_e hf
    obtain ⟨w35, fs36, hh37, hf⟩ := hf
    refine V.addK0 ?_
    refine V.addN0 ?_
    refine v_callV (mc := 0) (ms := 0) 0 dX0_run_30 (m_J27_removeFirst hG hf) rfl hh37 rfl (lw_V q2171 q957 q958 q122 q959) rfl (by decide +kernel) (by decide) rfl (cat_len (Nat.le_of_ble_eq_true rfl)) (kk_R fun r39 h38 hg => ?_) (fun _ _ _ hx => hx.elim)
    replace hf := hg
    clear hg
    obtain ⟨hoc, hf⟩ := hf
    refine v_castQS (r := r39) dX0_run_33 q2172 hoc rfl ?_
    refine v_qload_n (r := r_2) (i := 2) dX0_run_36 rfl rfl ?_
    obtain ⟨a40, rfl⟩ := rv_s hf
    replace hf := rv_e hf
    obtain ⟨w41, fs42, hh43, hf⟩ := hf
    obtain ⟨mc46, ms47, hkmc46, hnms47, hM⟩ := hf
    refine V.weak (k' := ((k - mc46) + 1) + mc46) (n' := ((n - ms47) + 8) + ms47) ?_ (by omega) (by omega)
    refine v_callVH 1 dX0_run_37 hM rfl hh43 rfl (lw_VW q2173 q2174 q2175 q141 q2176) rfl (by decide +kernel) (by decide) rfl (cat_len (Nat.le_of_ble_eq_true rfl)) (kk_I fun i45 h44 hg => ?_) (fun _ _ _ hx => hx.elim)
    have hf := hg
    clear hg
    refine v_if_ne 47 dX0_run_40 (by decide) (fun c50 => ?_) (fun c50 => ?_)
    · replace hf := hf.1 c50
      refine v_iconst (v := 0) dX0_run_47 (by decide) ?_
      refine v_bipush (v := 12) dX0_run_48 (by decide) ?_
      refine v_iload_n (i := 3) dX0_run_50 rfl rfl ?_
      refine v_callS (mc := 1) (ms := 8) 3 dX0_run_51 (m_X0_refuse hG hf) rfl (lw_S q2211 q513 q88 q514) rfl (by decide +kernel) (by decide) rfl (cat_len (Nat.le_of_ble_eq_true rfl)) (kk_V fun h51 hg => ?_) (fun c52 q53 h51 hg => ?_)
      · replace hf := hg
        clear hg
        refine v_iinc (i := 3) (v := i_3 + (1 : Int32)) (lv' := [(0, .ref a0), (1, va_rf (some a1)), (2, va_rf r_2), (3, .int (i_3 + (1 : Int32)))]) dX0_run_54 rfl rfl (Nat.le_of_ble_eq_true rfl) rfl rfl ?_
        refine v_goto 22 dX0_run_57 (by decide) ?_
        exact V.weak hf (by omega) (by omega)
      · replace hf := hg
        clear hg
        obtain ⟨rfl, hf⟩ := hf
        refine vx_caught (tableOf [(0, 80, 91, 225)]) _ _ rfl (fun z hz => by rcases List.mem_singleton.mp hz with rfl; exact Or.inr ⟨by decide, _, q2042, by decide⟩) (by decide) (by decide) q302 rfl q516 ?_
        refine v_astore_n (i := 1) (lv' := [(0, .ref a0), (1, .ref q53), (2, va_rf r_2), (3, .int i_3)]) dX0_run_111 rfl (Nat.le_of_ble_eq_true rfl) rfl rfl ?_
        refine v_aload_n (i := 0) dX0_run_112 rfl rfl ?_
        refine v_aload_n (i := 1) dX0_run_113 rfl rfl ?_
        replace hf := rv_e hf
        obtain ⟨w54, fs55, hh56, hf⟩ := hf
        refine V.addK0 ?_
        refine V.addN0 ?_
        refine v_callV (mc := 0) (ms := 0) 1 dX0_run_114 (m_X0_refused hG hf) rfl hh56 rfl (lw_V q626 q628 qs7 q88 q629) rfl (by decide +kernel) (by decide) rfl (cat_len (Nat.le_of_ble_eq_true rfl)) (kk_I fun i58 h57 hg => ?_) (fun _ _ _ hx => hx.elim)
        replace hf := hg
        clear hg
        refine v_istore_n (i := 2) (lv' := [(0, .ref a0), (1, .ref q53), (2, .int i58), (3, .int i_3)]) dX0_run_117 rfl (Nat.le_of_ble_eq_true rfl) rfl rfl ?_
        refine v_aload_n (i := 0) dX0_run_118 rfl rfl ?_
        replace hf := gR_e hf
        obtain ⟨w60, fs61, r59, hh62, hk63, hf⟩ := hf
        refine v_getf (T := TX0) (ci := 0) 5 dX0_run_119 q281 rfl in_X0 (Nat.le_of_ble_eq_true rfl) (Or.inl rfl) hh62 hk63 ?_
        refine v_iconst (v := 0) dX0_run_122 (by decide) ?_
        obtain ⟨a64, rfl⟩ := rv_s hf
        replace hf := rv_e hf
        obtain ⟨w65, fs66, hh67, hf⟩ := hf
        obtain ⟨mc69, ms70, hkmc69, hnms70, hM⟩ := hf
        refine V.weak (k' := (((k - mc46) - mc69) + 0) + mc69) (n' := (((n - ms47) - ms70) + 0) + ms70) ?_ (by omega) (by omega)
        refine v_callV 1 dX0_run_123 hM rfl hh67 rfl (lw_V q2212 q2213 q2214 q95 q2215) rfl (by decide +kernel) (by decide) rfl (cat_len (Nat.le_of_ble_eq_true rfl)) (kk_V fun h68 hg => ?_) (fun _ _ _ hx => hx.elim)
        have hf := hg
        clear hg
        refine v_iload_n (i := 2) dX0_run_126 rfl rfl ?_
        exact v_iret dX0_run_127 rfl ⟨_, rfl, hf⟩
    · replace hf := hf.2 c50
      refine v_iconst (v := 1) dX0_run_43 (by decide) ?_
      refine v_goto 48 dX0_run_44 (by decide) ?_
      refine v_bipush (v := 12) dX0_run_48 (by decide) ?_
      refine v_iload_n (i := 3) dX0_run_50 rfl rfl ?_
      refine v_callS (mc := 1) (ms := 8) 3 dX0_run_51 (m_X0_refuse hG hf) rfl (lw_S q2211 q513 q88 q514) rfl (by decide +kernel) (by decide) rfl (cat_len (Nat.le_of_ble_eq_true rfl)) (kk_V fun h73 hg => ?_) (fun c74 q75 h73 hg => ?_)
      · replace hf := hg
        clear hg
        refine v_iinc (i := 3) (v := i_3 + (1 : Int32)) (lv' := [(0, .ref a0), (1, va_rf (some a1)), (2, va_rf r_2), (3, .int (i_3 + (1 : Int32)))]) dX0_run_54 rfl rfl (Nat.le_of_ble_eq_true rfl) rfl rfl ?_
        refine v_goto 22 dX0_run_57 (by decide) ?_
        exact V.weak hf (by omega) (by omega)
      · replace hf := hg
        clear hg
        obtain ⟨rfl, hf⟩ := hf
        refine vx_caught (tableOf [(0, 80, 91, 225)]) _ _ rfl (fun z hz => by rcases List.mem_singleton.mp hz with rfl; exact Or.inr ⟨by decide, _, q2042, by decide⟩) (by decide) (by decide) q302 rfl q516 ?_
        refine v_astore_n (i := 1) (lv' := [(0, .ref a0), (1, .ref q75), (2, va_rf r_2), (3, .int i_3)]) dX0_run_111 rfl (Nat.le_of_ble_eq_true rfl) rfl rfl ?_
        refine v_aload_n (i := 0) dX0_run_112 rfl rfl ?_
        refine v_aload_n (i := 1) dX0_run_113 rfl rfl ?_
        replace hf := rv_e hf
        obtain ⟨w76, fs77, hh78, hf⟩ := hf
        refine V.addK0 ?_
        refine V.addN0 ?_
        refine v_callV (mc := 0) (ms := 0) 1 dX0_run_114 (m_X0_refused hG hf) rfl hh78 rfl (lw_V q626 q628 qs7 q88 q629) rfl (by decide +kernel) (by decide) rfl (cat_len (Nat.le_of_ble_eq_true rfl)) (kk_I fun i80 h79 hg => ?_) (fun _ _ _ hx => hx.elim)
        replace hf := hg
        clear hg
        refine v_istore_n (i := 2) (lv' := [(0, .ref a0), (1, .ref q75), (2, .int i80), (3, .int i_3)]) dX0_run_117 rfl (Nat.le_of_ble_eq_true rfl) rfl rfl ?_
        refine v_aload_n (i := 0) dX0_run_118 rfl rfl ?_
        replace hf := gR_e hf
        obtain ⟨w82, fs83, r81, hh84, hk85, hf⟩ := hf
        refine v_getf (T := TX0) (ci := 0) 5 dX0_run_119 q281 rfl in_X0 (Nat.le_of_ble_eq_true rfl) (Or.inl rfl) hh84 hk85 ?_
        refine v_iconst (v := 0) dX0_run_122 (by decide) ?_
        obtain ⟨a86, rfl⟩ := rv_s hf
        replace hf := rv_e hf
        obtain ⟨w87, fs88, hh89, hf⟩ := hf
        obtain ⟨mc91, ms92, hkmc91, hnms92, hM⟩ := hf
        refine V.weak (k' := (((k - mc46) - mc91) + 0) + mc91) (n' := (((n - ms47) - ms92) + 0) + ms92) ?_ (by omega) (by omega)
        refine v_callV 1 dX0_run_123 hM rfl hh89 rfl (lw_V q2212 q2213 q2214 q95 q2215) rfl (by decide +kernel) (by decide) rfl (cat_len (Nat.le_of_ble_eq_true rfl)) (kk_V fun h90 hg => ?_) (fun _ _ _ hx => hx.elim)
        have hf := hg
        clear hg
        refine v_iload_n (i := 2) dX0_run_126 rfl rfl ?_
        exact v_iret dX0_run_127 rfl ⟨_, rfl, hf⟩
theorem b_X0_run {G : Gt} {h : Hp} {mc ms : Nat} {a0 : Nat} {K : Int32 → Hp → Prop} (hG : Base G) (hf : ∀ E : Ev, V G E Y_X0_run cX0_run 7 (QM G E (kI K) xN) h mc ms 0 [(0, .ref a0)] []) : MM G Y_X0_run cX0_run 7 mc ms [.ref a0] h (kI K) xN := mm_ofH hG (by decide +kernel) rfl (ac_c rfl ac_nil) (Nat.le_of_ble_eq_true rfl) (fun E _ _ => hf E)
abbrev Y_X3_text : Yt := (yX3_text, some (.object "java/lang/String"), 7, 176, [])
def g_X3_text_0 (G : Gt) (E : Ev) (h : Hp) (k n : Nat) (a0 : Nat) (i_1 : Int32) (i_2 : Int32) (K : Option Nat → Hp → Prop) : Prop :=
nO h 13 [.null, .int 0, .int 0, .int 0] fun a1 h2 =>
f_J5_init G h2 (some a1) (fun h3 =>
rv h3 (some a1) 13 (dR G Y_J5_append_2 cJ5_append_2 2 [va_rf (some a1), .int i_1] h3 k n (fun r8 h7 k11 n12 =>
rv h7 r8 13 (f_J5_append G h7 r8 (42 : Int32) (fun r18 h17 =>
gI h17 (some a0) 3 1 fun i19 =>
rv h17 r18 13 (dR G Y_J5_append_2 cJ5_append_2 2 [va_rf r18, .int i19] h17 k11 n12 (fun r29 h28 k32 n33 =>
V G E Y_X3_text cX3_text 6 (QM G E (kR K) xN) h28 k32 n33 27 [(0, .ref a0), (2, .int i_2), (3, va_rf r29), (4, .int (0 : Int32))] []) xN)))) xN))
theorem s_X3_text_0 {G : Gt} {E : Ev} {h : Hp} {k0 n0 : Nat} {a0 : Nat} {i_1 : Int32} {i_2 : Int32} {K : Option Nat → Hp → Prop} (hG : Base G) (hA : 3 ≤ k0) (hB : 120 ≤ n0) (hf : g_X3_text_0 G E h (k0 - 3) (n0 - 120) a0 i_1 i_2 K) : V G E Y_X3_text cX3_text 6 (QM G E (kR K) xN) h k0 n0 0 [(0, .ref a0), (1, .int i_1), (2, .int i_2)] [] := by
  obtain ⟨k, hk9⟩ : ∃ z, z = k0 - 3 := ⟨_, rfl⟩
  obtain ⟨n, hn9⟩ : ∃ z, z = n0 - 120 := ⟨_, rfl⟩
  rw [← hk9, ← hn9] at hf
  refine V.weak (k' := k + 3) (n' := n + 120) ?_ (by omega) (by omega)
  unfold g_X3_text_0 at hf
  refine v_new (N := 4) (fs := [.null, .int 0, .int 0, .int 0]) (ci := 13) dX3_text_0 q2241 q242 q95 rfl in_J5 tyJ5 tyJ5_ok rfl (fun a1 ha1 => ?_)
  replace hf := hf a1 ha1
  obtain ⟨h2, eh2⟩ : ∃ z, z = hs h a1 (true, .inr (13, [.null, .int 0, .int 0, .int 0])) := ⟨_, rfl⟩
  try rw [← eh2] at hf
  rw [← eh2]
  refine v_dup dX3_text_3 rfl ?_
  refine v_callI (mc := 1) (ms := 16) 0 dX3_text_4 (m_J5_init hG hf) rfl (lw_meth q245) rfl q95 q2242 q244 rfl rfl (by decide +kernel) (by decide) rfl (cat_len (Nat.le_of_ble_eq_true rfl)) (kk_V fun h3 hg => ?_) (fun _ _ _ hx => hx.elim)
  replace hf := hg
  clear hg
  refine v_iload_n (i := 1) dX3_text_7 rfl rfl ?_
  replace hf := rv_e hf
  obtain ⟨w4, fs5, hh6, hf⟩ := hf
  obtain ⟨mc9, ms10, hkmc9, hnms10, hM⟩ := hf
  refine V.weak (k' := ((k - mc9) + 1) + mc9) (n' := ((n - ms10) + 100) + ms10) ?_ (by omega) (by omega)
  refine v_callV 1 dX3_text_8 hM rfl hh6 rfl (lw_V q2243 q2244 q2245 q95 q2246) rfl (by decide +kernel) (by decide) rfl (cat_len (Nat.le_of_ble_eq_true rfl)) (kk_R fun r8 h7 hg => ?_) (fun _ _ _ hx => hx.elim)
  have hf := hg
  clear hg
  refine v_bipush (v := 42) dX3_text_11 (by decide) ?_
  obtain ⟨a13, rfl⟩ := rv_s hf
  replace hf := rv_e hf
  obtain ⟨w14, fs15, hh16, hf⟩ := hf
  refine v_callV (mc := 1) (ms := 100) 1 dX3_text_13 (m_J5_append hG hf) rfl hh16 rfl (lw_V q2274 q1979 q1980 q95 q1981) rfl (by decide +kernel) (by decide) rfl (cat_len (Nat.le_of_ble_eq_true rfl)) (kk_R fun r18 h17 hg => ?_) (fun _ _ _ hx => hx.elim)
  replace hf := hg
  clear hg
  refine v_aload_n (i := 0) dX3_text_16 rfl rfl ?_
  replace hf := gI_e hf
  obtain ⟨w20, fs21, i19, hh22, hk23, hf⟩ := hf
  refine v_getf (T := TX3) (ci := 3) 1 dX3_text_17 q415 rfl in_X3 (Nat.le_of_ble_eq_true rfl) (Or.inl rfl) hh22 hk23 ?_
  obtain ⟨a24, rfl⟩ := rv_s hf
  replace hf := rv_e hf
  obtain ⟨w25, fs26, hh27, hf⟩ := hf
  obtain ⟨mc30, ms31, hkmc30, hnms31, hM⟩ := hf
  refine V.weak (k' := (((k - mc9) - mc30) + 0) + mc30) (n' := (((n - ms10) - ms31) + 0) + ms31) ?_ (by omega) (by omega)
  refine v_callV 1 dX3_text_20 hM rfl hh27 rfl (lw_V q2243 q2244 q2245 q95 q2246) rfl (by decide +kernel) (by decide) rfl (cat_len (Nat.le_of_ble_eq_true rfl)) (kk_R fun r29 h28 hg => ?_) (fun _ _ _ hx => hx.elim)
  have hf := hg
  clear hg
  refine v_qstore_n (i := 3) (r := r29) (lv' := [(0, .ref a0), (1, .int i_1), (2, .int i_2), (3, va_rf r29)]) dX3_text_23 rfl (Nat.le_of_ble_eq_true rfl) rfl rfl ?_
  refine v_iconst (v := 0) dX3_text_24 (by decide) ?_
  refine v_istore (i := 4) (lv' := [(0, .ref a0), (1, .int i_1), (2, .int i_2), (3, va_rf r29), (4, .int (0 : Int32))]) dX3_text_25 (Nat.le_of_ble_eq_true rfl) rfl rfl ?_
  refine V.lp (lv' := [(0, .ref a0), (2, .int i_2), (3, va_rf r29), (4, .int (0 : Int32))]) [0, 2, 3, 4] rfl ?_
  exact V.weak hf (by omega) (by omega)
def g_X3_text_27 (G : Gt) (E : Ev) (h : Hp) (k n : Nat) (a0 : Nat) (i_2 : Int32) (r_3 : Option Nat) (i_4 : Int32) (K : Option Nat → Hp → Prop) : Prop :=
(((3 : Int32) ≤ i_4 → ((i_2 = 0 → rv h r_3 13 (f_J5_append_3 G h r_3 (some (g_k G 9)) (fun r8 h7 =>
rv h7 r8 13 (f_J5_toString G h7 r8 (fun r14 h13 =>
K r14 h13))))) ∧
(¬ (i_2 = 0) → rv h r_3 13 (f_J5_append_3 G h r_3 (some (g_k G 8)) (fun r20 h19 =>
rv h19 r20 13 (f_J5_toString G h19 r20 (fun r26 h25 =>
K r26 h25))))))) ∧
(¬ ((3 : Int32) ≤ i_4) → V G E Y_X3_text cX3_text 6 (QM G E (kR K) xN) h k n 36 [(0, .ref a0), (2, .int i_2), (3, va_rf r_3), (4, .int i_4), (5, .int (0 : Int32))] []))
theorem s_X3_text_27 {G : Gt} {E : Ev} {h : Hp} {k0 n0 : Nat} {a0 : Nat} {i_2 : Int32} {r_3 : Option Nat} {i_4 : Int32} {K : Option Nat → Hp → Prop} (hG : Base G) (hA : 3 ≤ k0) (hB : 204 ≤ n0) (hf : g_X3_text_27 G E h (k0 - 3) (n0 - 204) a0 i_2 r_3 i_4 K) : V G E Y_X3_text cX3_text 6 (QM G E (kR K) xN) h k0 n0 27 [(0, .ref a0), (2, .int i_2), (3, va_rf r_3), (4, .int i_4)] [] := by
  obtain ⟨k, hk9⟩ : ∃ z, z = k0 - 3 := ⟨_, rfl⟩
  obtain ⟨n, hn9⟩ : ∃ z, z = n0 - 204 := ⟨_, rfl⟩
  rw [← hk9, ← hn9] at hf
  refine V.weak (k' := k + 3) (n' := n + 204) ?_ (by omega) (by omega)
  unfold g_X3_text_27 at hf
  refine v_iload (i := 4) dX3_text_27 rfl ?_
  refine v_iconst (v := 3) dX3_text_29 (by decide) ?_
  refine v_icmp_ge 71 dX3_text_30 (by decide) (fun c1 => ?_) (fun c1 => ?_)
  · replace hf := hf.1 c1
    refine v_qload_n (r := r_3) (i := 3) dX3_text_71 rfl rfl ?_
    refine v_iload_n (i := 2) dX3_text_72 rfl rfl ?_
    refine v_if_eq 81 dX3_text_73 (by decide) (fun c2 => ?_) (fun c2 => ?_)
    · replace hf := hf.1 c2
      refine v_ldcS dX3_text_81 (List.mem_of_getElem? (i := 17) rfl) ?_
      obtain ⟨a3, rfl⟩ := rv_s hf
      replace hf := rv_e hf
      obtain ⟨w4, fs5, hh6, hf⟩ := hf
      refine v_callV (mc := 1) (ms := 100) 1 dX3_text_83 (m_J5_append_3 hG hf) rfl hh6 rfl (lw_V q2277 q2278 q2279 q95 q2280) rfl (by decide +kernel) (by decide) rfl (cat_len (Nat.le_of_ble_eq_true rfl)) (kk_R fun r8 h7 hg => ?_) (fun _ _ _ hx => hx.elim)
      replace hf := hg
      clear hg
      obtain ⟨a9, rfl⟩ := rv_s hf
      replace hf := rv_e hf
      obtain ⟨w10, fs11, hh12, hf⟩ := hf
      refine v_callV (mc := 2) (ms := 104) 0 dX3_text_86 (m_J5_toString hG hf) rfl hh12 rfl (lw_V q2307 q2308 q2309 q95 q2310) rfl (by decide +kernel) (by decide) rfl (cat_len (Nat.le_of_ble_eq_true rfl)) (kk_R fun r14 h13 hg => ?_) (fun _ _ _ hx => hx.elim)
      replace hf := hg
      clear hg
      exact v_qret (r := r14) dX3_text_89 rfl (Or.inl ⟨_, rfl⟩) ⟨_, rfl, hf⟩
    · replace hf := hf.2 c2
      refine v_ldcS dX3_text_76 (List.mem_of_getElem? (i := 16) rfl) ?_
      refine v_goto 83 dX3_text_78 (by decide) ?_
      obtain ⟨a15, rfl⟩ := rv_s hf
      replace hf := rv_e hf
      obtain ⟨w16, fs17, hh18, hf⟩ := hf
      refine v_callV (mc := 1) (ms := 100) 1 dX3_text_83 (m_J5_append_3 hG hf) rfl hh18 rfl (lw_V q2277 q2278 q2279 q95 q2280) rfl (by decide +kernel) (by decide) rfl (cat_len (Nat.le_of_ble_eq_true rfl)) (kk_R fun r20 h19 hg => ?_) (fun _ _ _ hx => hx.elim)
      replace hf := hg
      clear hg
      obtain ⟨a21, rfl⟩ := rv_s hf
      replace hf := rv_e hf
      obtain ⟨w22, fs23, hh24, hf⟩ := hf
      refine v_callV (mc := 2) (ms := 104) 0 dX3_text_86 (m_J5_toString hG hf) rfl hh24 rfl (lw_V q2307 q2308 q2309 q95 q2310) rfl (by decide +kernel) (by decide) rfl (cat_len (Nat.le_of_ble_eq_true rfl)) (kk_R fun r26 h25 hg => ?_) (fun _ _ _ hx => hx.elim)
      replace hf := hg
      clear hg
      exact v_qret (r := r26) dX3_text_89 rfl (Or.inl ⟨_, rfl⟩) ⟨_, rfl, hf⟩
  · replace hf := hf.2 c1
    refine v_iconst (v := 0) dX3_text_33 (by decide) ?_
    refine v_istore (i := 5) (lv' := [(0, .ref a0), (2, .int i_2), (3, va_rf r_3), (4, .int i_4), (5, .int (0 : Int32))]) dX3_text_34 (Nat.le_of_ble_eq_true rfl) rfl rfl ?_
    exact V.weak hf (by omega) (by omega)
def g_X3_text_36 (G : Gt) (E : Ev) (h : Hp) (k n : Nat) (a0 : Nat) (i_2 : Int32) (r_3 : Option Nat) (i_4 : Int32) (i_5 : Int32) (K : Option Nat → Hp → Prop) : Prop :=
gR h (some a0) 3 0 fun r1 =>
aI h r1 0 i_4 fun i12 =>
((i12 ≤ i_5 → V G E Y_X3_text cX3_text 6 (QM G E (kR K) xN) h k n 27 [(0, .ref a0), (2, .int i_2), (3, va_rf r_3), (4, .int (i_4 + (1 : Int32)))] []) ∧
(¬ (i12 ≤ i_5) → rv h r_3 13 (f_J5_append G h r_3 ((((97 : Int32) + i_4).toUInt32 % 65536).toInt32) (fun r19 h18 =>
V G E Y_X3_text cX3_text 6 (QM G E (kR K) xN) h18 k n 36 [(0, .ref a0), (2, .int i_2), (3, va_rf r_3), (4, .int i_4), (5, .int (i_5 + (1 : Int32)))] []))))
theorem s_X3_text_36 {G : Gt} {E : Ev} {h : Hp} {k0 n0 : Nat} {a0 : Nat} {i_2 : Int32} {r_3 : Option Nat} {i_4 : Int32} {i_5 : Int32} {K : Option Nat → Hp → Prop} (hG : Base G) (hA : 1 ≤ k0) (hB : 100 ≤ n0) (hf : g_X3_text_36 G E h (k0 - 1) (n0 - 100) a0 i_2 r_3 i_4 i_5 K) : V G E Y_X3_text cX3_text 6 (QM G E (kR K) xN) h k0 n0 36 [(0, .ref a0), (2, .int i_2), (3, va_rf r_3), (4, .int i_4), (5, .int i_5)] [] := by
  obtain ⟨k, hk9⟩ : ∃ z, z = k0 - 1 := ⟨_, rfl⟩
  obtain ⟨n, hn9⟩ : ∃ z, z = n0 - 100 := ⟨_, rfl⟩
  rw [← hk9, ← hn9] at hf
  refine V.weak (k' := k + 1) (n' := n + 100) ?_ (by omega) (by omega)
  unfold g_X3_text_36 at hf
  refine v_iload (i := 5) dX3_text_36 rfl ?_
  refine v_aload_n (i := 0) dX3_text_38 rfl rfl ?_
  replace hf := gR_e hf
  obtain ⟨w2, fs3, r1, hh4, hk5, hf⟩ := hf
  refine v_getf (T := TX3) (ci := 3) 0 dX3_text_39 q413 rfl in_X3 (Nat.le_of_ble_eq_true rfl) (Or.inl rfl) hh4 hk5 ?_
  refine v_iload (i := 4) dX3_text_42 rfl ?_
  obtain ⟨a6, rfl⟩ := aI_s hf
  replace hf := aI_e hf
  obtain ⟨w7, N8, f9, hh10, hi11, i12, ei12, hf⟩ := hf
  refine v_iald dX3_text_44 hh10 hi11 ?_
  rw [← ei12]
  refine v_icmp_ge 65 dX3_text_45 (by decide) (fun c13 => ?_) (fun c13 => ?_)
  · replace hf := hf.1 c13
    refine v_iinc (i := 4) (v := i_4 + (1 : Int32)) (lv' := [(0, .ref a0), (2, .int i_2), (3, va_rf r_3), (4, .int (i_4 + (1 : Int32))), (5, .int i_5)]) dX3_text_65 rfl rfl (Nat.le_of_ble_eq_true rfl) rfl rfl ?_
    refine v_goto 27 dX3_text_68 (by decide) ?_
    refine V.lp (lv' := [(0, .ref a0), (2, .int i_2), (3, va_rf r_3), (4, .int (i_4 + (1 : Int32)))]) [0, 1, 2, 3] rfl ?_
    exact V.weak hf (by omega) (by omega)
  · replace hf := hf.2 c13
    refine v_qload_n (r := r_3) (i := 3) dX3_text_48 rfl rfl ?_
    refine v_bipush (v := 97) dX3_text_49 (by decide) ?_
    refine v_iload (i := 4) dX3_text_51 rfl ?_
    refine v_iadd dX3_text_53 ?_
    refine v_i2c (v := (((97 : Int32) + i_4).toUInt32 % 65536).toInt32) dX3_text_54 rfl ?_
    obtain ⟨a14, rfl⟩ := rv_s hf
    replace hf := rv_e hf
    obtain ⟨w15, fs16, hh17, hf⟩ := hf
    refine v_callV (mc := 1) (ms := 100) 1 dX3_text_55 (m_J5_append hG hf) rfl hh17 rfl (lw_V q2274 q1979 q1980 q95 q1981) rfl (by decide +kernel) (by decide) rfl (cat_len (Nat.le_of_ble_eq_true rfl)) (kk_R fun r19 h18 hg => ?_) (fun _ _ _ hx => hx.elim)
    replace hf := hg
    clear hg
    refine v_pop dX3_text_58 (rf_cat _) ?_
    refine v_iinc (i := 5) (v := i_5 + (1 : Int32)) (lv' := [(0, .ref a0), (2, .int i_2), (3, va_rf (some a14)), (4, .int i_4), (5, .int (i_5 + (1 : Int32)))]) dX3_text_59 rfl rfl (Nat.le_of_ble_eq_true rfl) rfl rfl ?_
    refine v_goto 36 dX3_text_62 (by decide) ?_
    exact V.weak hf (by omega) (by omega)
theorem b_X3_text {G : Gt} {h : Hp} {mc ms : Nat} {a0 : Nat} {i_1 : Int32} {i_2 : Int32} {K : Option Nat → Hp → Prop} (hG : Base G) (hf : ∀ E : Ev, V G E Y_X3_text cX3_text 6 (QM G E (kR K) xN) h mc ms 0 [(0, .ref a0), (1, .int i_1), (2, .int i_2)] []) : MM G Y_X3_text cX3_text 6 mc ms [.ref a0, .int i_1, .int i_2] h (kR K) xN := mm_of hG (by decide +kernel) rfl (ac_c rfl (ac_c rfl (ac_c rfl ac_nil))) (Nat.le_of_ble_eq_true rfl) (fun E _ _ => hf E)
abbrev Y_X0_tell : Yt := (yX0_tell, some (.int), 8, 201, [])
def f_X0_tell (G : Gt) (h : Hp) (k n : Nat) (t_0 : Option Nat) (i_1 : Int32) (K : Int32 → Hp → Prop) : Prop :=
gR h t_0 0 0 fun r1 =>
rv h r1 1 (f_X1_isRoom G h r1 i_1 (fun i11 h10 =>
((¬ (i11 = 0) → gR h10 t_0 0 0 fun r13 =>
gR h10 r13 1 0 fun r18 =>
rv h10 r18 10 (f_J2_get G h10 r18 i_1 (fun r29 h28 =>
(oc h28 r29 3 ∧ gR h28 t_0 0 0 fun r30 =>
gI h28 r30 1 3 fun i35 =>
((¬ (i35 = i_1) → rv h28 r29 3 (dR G Y_X3_text cX3_text 6 [va_rf r29, .int i_1, .int (0 : Int32)] h28 k n (fun r47 h46 k50 n51 =>
pF h46 t_0 0 6 (va_rf r47) fun h54 =>
gR h54 t_0 0 6 fun r55 =>
rv h54 r55 14 (f_J6_length G h54 r55 (fun i65 h64 =>
K i65 h64))) xN)) ∧
(i35 = i_1 → rv h28 r29 3 (dR G Y_X3_text cX3_text 6 [va_rf r29, .int i_1, .int (1 : Int32)] h28 k n (fun r71 h70 k74 n75 =>
pF h70 t_0 0 6 (va_rf r71) fun h78 =>
gR h78 t_0 0 6 fun r79 =>
rv h78 r79 14 (f_J6_length G h78 r79 (fun i89 h88 =>
K i89 h88))) xN))))))) ∧
(i11 = 0 → K (-1011 : Int32) h10))))
theorem m_X0_tell {G : Gt} {h : Hp} {mc ms : Nat} {a0 : Nat} {i_1 : Int32} {K : Int32 → Hp → Prop} (hG : Base G) (hA : 0 ≤ mc) (hB : 0 ≤ ms) (hf : f_X0_tell G h (mc - 0) (ms - 0) (some a0) i_1 K) : MM G Y_X0_tell cX0_tell 2 mc ms [.ref a0, .int i_1] h (kI K) xN := by
  refine mm_of hG (by decide +kernel) rfl (ac_c rfl (ac_c rfl ac_nil)) (Nat.le_of_ble_eq_true rfl) (fun E _ _ => ?_)
  obtain ⟨k, hk9⟩ : ∃ z, z = mc - 0 := ⟨_, rfl⟩
  obtain ⟨n, hn9⟩ : ∃ z, z = ms - 0 := ⟨_, rfl⟩
  rw [← hk9, ← hn9] at hf
  refine V.weak (k' := k + 0) (n' := n + 0) ?_ (by omega) (by omega)
  show V G E Y_X0_tell cX0_tell 2 (QM G E (kI K) xN) h (k + 0) (n + 0) 0 [(0, .ref a0), (1, .int i_1)] []
  unfold f_X0_tell at hf
  refine v_qload_n (r := (some a0)) (i := 0) dX0_tell_0 rfl rfl ?_
  replace hf := gR_e hf
  obtain ⟨w2, fs3, r1, hh4, hk5, hf⟩ := hf
  refine v_getf (T := TX0) (ci := 0) 0 dX0_tell_1 q275 rfl in_X0 (Nat.le_of_ble_eq_true rfl) (Or.inl rfl) hh4 hk5 ?_
  refine v_iload_n (i := 1) dX0_tell_4 rfl rfl ?_
  obtain ⟨a6, rfl⟩ := rv_s hf
  replace hf := rv_e hf
  obtain ⟨w7, fs8, hh9, hf⟩ := hf
  refine V.addK0 ?_
  refine V.addN0 ?_
  refine v_callV (mc := 0) (ms := 0) 1 dX0_tell_5 (m_X1_isRoom hG hf) rfl hh9 rfl (lw_V q719 q639 q640 q89 q641) rfl (by decide +kernel) (by decide) rfl (cat_len (Nat.le_of_ble_eq_true rfl)) (kk_I fun i11 h10 hg => ?_) (fun _ _ _ hx => hx.elim)
  replace hf := hg
  clear hg
  refine v_if_ne 15 dX0_tell_8 (by decide) (fun c12 => ?_) (fun c12 => ?_)
  · replace hf := hf.1 c12
    refine v_qload_n (r := (some a0)) (i := 0) dX0_tell_15 rfl rfl ?_
    refine v_qload_n (r := (some a0)) (i := 0) dX0_tell_16 rfl rfl ?_
    replace hf := gR_e hf
    obtain ⟨w14, fs15, r13, hh16, hk17, hf⟩ := hf
    refine v_getf (T := TX0) (ci := 0) 0 dX0_tell_17 q275 rfl in_X0 (Nat.le_of_ble_eq_true rfl) (Or.inl rfl) hh16 hk17 ?_
    obtain ⟨a19, rfl⟩ := gR_s hf
    replace hf := gR_e hf
    obtain ⟨w20, fs21, r18, hh22, hk23, hf⟩ := hf
    refine v_getfN (T := TX1) (ci := 1) 0 dX0_tell_20 q189 rfl in_X1 (Nat.le_of_ble_eq_true rfl) (Or.inl rfl) hh22 hk23 ?_
    refine v_iload_n (i := 1) dX0_tell_23 rfl rfl ?_
    obtain ⟨a24, rfl⟩ := rv_s hf
    replace hf := rv_e hf
    obtain ⟨w25, fs26, hh27, hf⟩ := hf
    refine V.addK0 ?_
    refine V.addN0 ?_
    refine v_callV (mc := 0) (ms := 0) 1 dX0_tell_24 (m_J2_get hG hf) rfl hh27 rfl (lw_V q1670 q661 q662 q92 q663) rfl (by decide +kernel) (by decide) rfl (cat_len (Nat.le_of_ble_eq_true rfl)) (kk_R fun r29 h28 hg => ?_) (fun _ _ _ hx => hx.elim)
    replace hf := hg
    clear hg
    obtain ⟨hoc, hf⟩ := hf
    refine v_castQS (r := r29) dX0_tell_27 q2236 hoc rfl ?_
    refine v_iload_n (i := 1) dX0_tell_30 rfl rfl ?_
    refine v_qload_n (r := (some a0)) (i := 0) dX0_tell_31 rfl rfl ?_
    replace hf := gR_e hf
    obtain ⟨w31, fs32, r30, hh33, hk34, hf⟩ := hf
    refine v_getf (T := TX0) (ci := 0) 0 dX0_tell_32 q275 rfl in_X0 (Nat.le_of_ble_eq_true rfl) (Or.inl rfl) hh33 hk34 ?_
    obtain ⟨a36, rfl⟩ := gI_s hf
    replace hf := gI_e hf
    obtain ⟨w37, fs38, i35, hh39, hk40, hf⟩ := hf
    refine v_getfN (T := TX1) (ci := 1) 3 dX0_tell_35 q194 rfl in_X1 (Nat.le_of_ble_eq_true rfl) (Or.inl rfl) hh39 hk40 ?_
    refine v_iload_n (i := 1) dX0_tell_38 rfl rfl ?_
    refine v_icmp_ne 46 dX0_tell_39 (by decide) (fun c41 => ?_) (fun c41 => ?_)
    · replace hf := hf.1 c41
      refine v_iconst (v := 0) dX0_tell_46 (by decide) ?_
      obtain ⟨a42, rfl⟩ := rv_s hf
      replace hf := rv_e hf
      obtain ⟨w43, fs44, hh45, hf⟩ := hf
      obtain ⟨mc48, ms49, hkmc48, hnms49, hM⟩ := hf
      refine V.weak (k' := ((k - mc48) + 0) + mc48) (n' := ((n - ms49) + 0) + ms49) ?_ (by omega) (by omega)
      refine v_callV 2 dX0_tell_47 hM rfl hh45 rfl (lw_V q2237 q2238 q2239 q100 q2240) rfl (by decide +kernel) (by decide) rfl (cat_len (Nat.le_of_ble_eq_true rfl)) (kk_R fun r47 h46 hg => ?_) (fun _ _ _ hx => hx.elim)
      have hf := hg
      clear hg
      replace hf := pF_e hf
      obtain ⟨fs52, hh53, hf⟩ := hf
      refine v_putf (v := va_rf r47) (T := TX0) (ci := 0) (ty := .object "java/lang/String") 6 dX0_tell_50 q282 rfl in_X0 tyX0 tyX0_ok nmX0 (Nat.le_of_ble_eq_true rfl) (Or.inl rfl) rfl (by decide +kernel) (rf_nar _ _) (rf_fit _ _) hh53 ?_
      obtain ⟨h54, eh54⟩ : ∃ z, z = hs h46 a0 (true, .inr (0, fs52.set 6 (va_rf r47))) := ⟨_, rfl⟩
      try rw [← eh54] at hf
      rw [← eh54]
      refine v_qload_n (r := (some a0)) (i := 0) dX0_tell_53 rfl rfl ?_
      replace hf := gR_e hf
      obtain ⟨w56, fs57, r55, hh58, hk59, hf⟩ := hf
      refine v_getf (T := TX0) (ci := 0) 6 dX0_tell_54 q282 rfl in_X0 (Nat.le_of_ble_eq_true rfl) (Or.inl rfl) hh58 hk59 ?_
      obtain ⟨a60, rfl⟩ := rv_s hf
      replace hf := rv_e hf
      obtain ⟨w61, fs62, hh63, hf⟩ := hf
      refine V.addK0 ?_
      refine V.addN0 ?_
      refine v_callV (mc := 0) (ms := 0) 0 dX0_tell_57 (m_J6_length hG hf) rfl hh63 rfl (lw_V q2359 q2085 q2086 q96 q2087) rfl (by decide +kernel) (by decide) rfl (cat_len (Nat.le_of_ble_eq_true rfl)) (kk_I fun i65 h64 hg => ?_) (fun _ _ _ hx => hx.elim)
      replace hf := hg
      clear hg
      exact v_iret dX0_tell_60 rfl ⟨_, rfl, hf⟩
    · replace hf := hf.2 c41
      refine v_iconst (v := 1) dX0_tell_42 (by decide) ?_
      refine v_goto 47 dX0_tell_43 (by decide) ?_
      obtain ⟨a66, rfl⟩ := rv_s hf
      replace hf := rv_e hf
      obtain ⟨w67, fs68, hh69, hf⟩ := hf
      obtain ⟨mc72, ms73, hkmc72, hnms73, hM⟩ := hf
      refine V.weak (k' := ((k - mc72) + 0) + mc72) (n' := ((n - ms73) + 0) + ms73) ?_ (by omega) (by omega)
      refine v_callV 2 dX0_tell_47 hM rfl hh69 rfl (lw_V q2237 q2238 q2239 q100 q2240) rfl (by decide +kernel) (by decide) rfl (cat_len (Nat.le_of_ble_eq_true rfl)) (kk_R fun r71 h70 hg => ?_) (fun _ _ _ hx => hx.elim)
      have hf := hg
      clear hg
      replace hf := pF_e hf
      obtain ⟨fs76, hh77, hf⟩ := hf
      refine v_putf (v := va_rf r71) (T := TX0) (ci := 0) (ty := .object "java/lang/String") 6 dX0_tell_50 q282 rfl in_X0 tyX0 tyX0_ok nmX0 (Nat.le_of_ble_eq_true rfl) (Or.inl rfl) rfl (by decide +kernel) (rf_nar _ _) (rf_fit _ _) hh77 ?_
      obtain ⟨h78, eh78⟩ : ∃ z, z = hs h70 a0 (true, .inr (0, fs76.set 6 (va_rf r71))) := ⟨_, rfl⟩
      try rw [← eh78] at hf
      rw [← eh78]
      refine v_qload_n (r := (some a0)) (i := 0) dX0_tell_53 rfl rfl ?_
      replace hf := gR_e hf
      obtain ⟨w80, fs81, r79, hh82, hk83, hf⟩ := hf
      refine v_getf (T := TX0) (ci := 0) 6 dX0_tell_54 q282 rfl in_X0 (Nat.le_of_ble_eq_true rfl) (Or.inl rfl) hh82 hk83 ?_
      obtain ⟨a84, rfl⟩ := rv_s hf
      replace hf := rv_e hf
      obtain ⟨w85, fs86, hh87, hf⟩ := hf
      refine V.addK0 ?_
      refine V.addN0 ?_
      refine v_callV (mc := 0) (ms := 0) 0 dX0_tell_57 (m_J6_length hG hf) rfl hh87 rfl (lw_V q2359 q2085 q2086 q96 q2087) rfl (by decide +kernel) (by decide) rfl (cat_len (Nat.le_of_ble_eq_true rfl)) (kk_I fun i89 h88 hg => ?_) (fun _ _ _ hx => hx.elim)
      replace hf := hg
      clear hg
      exact v_iret dX0_tell_60 rfl ⟨_, rfl, hf⟩
  · replace hf := hf.2 c12
    refine v_sipush (v := -1011) dX0_tell_11 (by decide) ?_
    exact v_iret dX0_tell_14 rfl ⟨_, rfl, hf⟩
abbrev Y_X5_text : Yt := (yX5_text, some (.object "java/lang/String"), 7, 176, [])
def f_X5_text (G : Gt) (h : Hp) (k n : Nat) (t_0 : Option Nat) (i_1 : Int32) (K : Option Nat → Hp → Prop) : Prop :=
nO h 13 [.null, .int 0, .int 0, .int 0] fun a1 h2 =>
f_J5_init G h2 (some a1) (fun h3 =>
rv h3 (some a1) 13 (dR G Y_J5_append_2 cJ5_append_2 2 [va_rf (some a1), .int i_1] h3 k n (fun r8 h7 k11 n12 =>
rv h7 r8 13 (f_J5_append G h7 r8 (58 : Int32) (fun r18 h17 =>
gI h17 t_0 5 0 fun i19 =>
rv h17 r18 13 (dR G Y_J5_append_2 cJ5_append_2 2 [va_rf r18, .int i19] h17 k11 n12 (fun r29 h28 k32 n33 =>
gI h28 t_0 5 2 fun i34 =>
((¬ (i34 = 0) → gI h28 t_0 5 2 fun i40 =>
((¬ (i40 = (1 : Int32)) → rv h28 r29 13 (f_J5_append G h28 r29 (101 : Int32) (fun r51 h50 =>
gI h50 t_0 5 1 fun i52 =>
rv h50 r51 13 (dR G Y_J5_append_2 cJ5_append_2 2 [va_rf r51, .int i52] h50 k32 n33 (fun r62 h61 k65 n66 =>
gI h61 t_0 5 4 fun i67 =>
((i67 = 0 → rv h61 (some a1) 13 (f_J5_append_3 G h61 (some a1) (some (g_k G 9)) (fun r77 h76 =>
rv h76 r77 13 (f_J5_toString G h76 r77 (fun r83 h82 =>
K r83 h82))))) ∧
(¬ (i67 = 0) → nO h61 13 [.null, .int 0, .int 0, .int 0] fun a84 h85 =>
f_J5_init G h85 (some a84) (fun h86 =>
rv h86 (some a84) 13 (f_J5_append_3 G h86 (some a84) (some (g_k G 10)) (fun r91 h90 =>
gI h90 t_0 5 3 fun i92 =>
rv h90 r91 13 (f_J5_append G h90 r91 ((((97 : Int32) + i92).toUInt32 % 65536).toInt32) (fun r102 h101 =>
rv h101 r102 13 (f_J5_toString G h101 r102 (fun r108 h107 =>
rv h107 (some a1) 13 (f_J5_append_3 G h107 (some a1) r108 (fun r113 h112 =>
rv h112 r113 13 (f_J5_toString G h112 r113 (fun r119 h118 =>
K r119 h118)))))))))))))) xN)))) ∧
(i40 = (1 : Int32) → rv h28 r29 13 (f_J5_append G h28 r29 (111 : Int32) (fun r125 h124 =>
gI h124 t_0 5 1 fun i126 =>
rv h124 r125 13 (dR G Y_J5_append_2 cJ5_append_2 2 [va_rf r125, .int i126] h124 k32 n33 (fun r136 h135 k139 n140 =>
gI h135 t_0 5 4 fun i141 =>
((i141 = 0 → rv h135 (some a1) 13 (f_J5_append_3 G h135 (some a1) (some (g_k G 9)) (fun r151 h150 =>
rv h150 r151 13 (f_J5_toString G h150 r151 (fun r157 h156 =>
K r157 h156))))) ∧
(¬ (i141 = 0) → nO h135 13 [.null, .int 0, .int 0, .int 0] fun a158 h159 =>
f_J5_init G h159 (some a158) (fun h160 =>
rv h160 (some a158) 13 (f_J5_append_3 G h160 (some a158) (some (g_k G 10)) (fun r165 h164 =>
gI h164 t_0 5 3 fun i166 =>
rv h164 r165 13 (f_J5_append G h164 r165 ((((97 : Int32) + i166).toUInt32 % 65536).toInt32) (fun r176 h175 =>
rv h175 r176 13 (f_J5_toString G h175 r176 (fun r182 h181 =>
rv h181 (some a1) 13 (f_J5_append_3 G h181 (some a1) r182 (fun r187 h186 =>
rv h186 r187 13 (f_J5_toString G h186 r187 (fun r193 h192 =>
K r193 h192)))))))))))))) xN)))))) ∧
(i34 = 0 → rv h28 r29 13 (f_J5_append G h28 r29 (45 : Int32) (fun r199 h198 =>
gI h198 t_0 5 1 fun i200 =>
rv h198 r199 13 (dR G Y_J5_append_2 cJ5_append_2 2 [va_rf r199, .int i200] h198 k32 n33 (fun r210 h209 k213 n214 =>
gI h209 t_0 5 4 fun i215 =>
((i215 = 0 → rv h209 (some a1) 13 (f_J5_append_3 G h209 (some a1) (some (g_k G 9)) (fun r225 h224 =>
rv h224 r225 13 (f_J5_toString G h224 r225 (fun r231 h230 =>
K r231 h230))))) ∧
(¬ (i215 = 0) → nO h209 13 [.null, .int 0, .int 0, .int 0] fun a232 h233 =>
f_J5_init G h233 (some a232) (fun h234 =>
rv h234 (some a232) 13 (f_J5_append_3 G h234 (some a232) (some (g_k G 10)) (fun r239 h238 =>
gI h238 t_0 5 3 fun i240 =>
rv h238 r239 13 (f_J5_append G h238 r239 ((((97 : Int32) + i240).toUInt32 % 65536).toInt32) (fun r250 h249 =>
rv h249 r250 13 (f_J5_toString G h249 r250 (fun r256 h255 =>
rv h255 (some a1) 13 (f_J5_append_3 G h255 (some a1) r256 (fun r261 h260 =>
rv h260 r261 13 (f_J5_toString G h260 r261 (fun r267 h266 =>
K r267 h266)))))))))))))) xN)))))) xN)))) xN))
theorem m_X5_text {G : Gt} {h : Hp} {mc ms : Nat} {a0 : Nat} {i_1 : Int32} {K : Option Nat → Hp → Prop} (hG : Base G) (hA : 13 ≤ mc) (hB : 748 ≤ ms) (hf : f_X5_text G h (mc - 13) (ms - 748) (some a0) i_1 K) : MM G Y_X5_text cX5_text 3 mc ms [.ref a0, .int i_1] h (kR K) xN := by
  refine mm_of hG (by decide +kernel) rfl (ac_c rfl (ac_c rfl ac_nil)) (Nat.le_of_ble_eq_true rfl) (fun E _ _ => ?_)
  obtain ⟨k, hk9⟩ : ∃ z, z = mc - 13 := ⟨_, rfl⟩
  obtain ⟨n, hn9⟩ : ∃ z, z = ms - 748 := ⟨_, rfl⟩
  rw [← hk9, ← hn9] at hf
  refine V.weak (k' := k + 13) (n' := n + 748) ?_ (by omega) (by omega)
  show V G E Y_X5_text cX5_text 3 (QM G E (kR K) xN) h (k + 13) (n + 748) 0 [(0, .ref a0), (1, .int i_1)] []
  unfold f_X5_text at hf
  refine v_new (N := 4) (fs := [.null, .int 0, .int 0, .int 0]) (ci := 13) dX5_text_0 q2368 q242 q95 rfl in_J5 tyJ5 tyJ5_ok rfl (fun a1 ha1 => ?_)
  replace hf := hf a1 ha1
  obtain ⟨h2, eh2⟩ : ∃ z, z = hs h a1 (true, .inr (13, [.null, .int 0, .int 0, .int 0])) := ⟨_, rfl⟩
  try rw [← eh2] at hf
  rw [← eh2]
  refine v_dup dX5_text_3 rfl ?_
  refine v_callI (mc := 1) (ms := 16) 0 dX5_text_4 (m_J5_init hG hf) rfl (lw_meth q245) rfl q95 q2369 q244 rfl rfl (by decide +kernel) (by decide) rfl (cat_len (Nat.le_of_ble_eq_true rfl)) (kk_V fun h3 hg => ?_) (fun _ _ _ hx => hx.elim)
  replace hf := hg
  clear hg
  refine v_astore_n (i := 2) (lv' := [(0, va_rf (some a0)), (1, .int i_1), (2, .ref a1)]) dX5_text_7 rfl (Nat.le_of_ble_eq_true rfl) rfl rfl ?_
  refine v_aload_n (i := 2) dX5_text_8 rfl rfl ?_
  refine v_iload_n (i := 1) dX5_text_9 rfl rfl ?_
  replace hf := rv_e hf
  obtain ⟨w4, fs5, hh6, hf⟩ := hf
  obtain ⟨mc9, ms10, hkmc9, hnms10, hM⟩ := hf
  refine V.weak (k' := ((k - mc9) + 11) + mc9) (n' := ((n - ms10) + 728) + ms10) ?_ (by omega) (by omega)
  refine v_callV 1 dX5_text_10 hM rfl hh6 rfl (lw_V q2370 q2244 q2245 q95 q2246) rfl (by decide +kernel) (by decide) rfl (cat_len (Nat.le_of_ble_eq_true rfl)) (kk_R fun r8 h7 hg => ?_) (fun _ _ _ hx => hx.elim)
  have hf := hg
  clear hg
  refine v_bipush (v := 58) dX5_text_13 (by decide) ?_
  obtain ⟨a13, rfl⟩ := rv_s hf
  replace hf := rv_e hf
  obtain ⟨w14, fs15, hh16, hf⟩ := hf
  refine v_callV (mc := 1) (ms := 100) 1 dX5_text_15 (m_J5_append hG hf) rfl hh16 rfl (lw_V q2371 q1979 q1980 q95 q1981) rfl (by decide +kernel) (by decide) rfl (cat_len (Nat.le_of_ble_eq_true rfl)) (kk_R fun r18 h17 hg => ?_) (fun _ _ _ hx => hx.elim)
  replace hf := hg
  clear hg
  refine v_qload_n (r := (some a0)) (i := 0) dX5_text_18 rfl rfl ?_
  replace hf := gI_e hf
  obtain ⟨w20, fs21, i19, hh22, hk23, hf⟩ := hf
  refine v_getf (T := TX5) (ci := 5) 0 dX5_text_19 q692 rfl in_X5 (Nat.le_of_ble_eq_true rfl) (Or.inl rfl) hh22 hk23 ?_
  obtain ⟨a24, rfl⟩ := rv_s hf
  replace hf := rv_e hf
  obtain ⟨w25, fs26, hh27, hf⟩ := hf
  obtain ⟨mc30, ms31, hkmc30, hnms31, hM⟩ := hf
  refine V.weak (k' := (((k - mc9) - mc30) + 10) + mc30) (n' := (((n - ms10) - ms31) + 628) + ms31) ?_ (by omega) (by omega)
  refine v_callV 1 dX5_text_22 hM rfl hh27 rfl (lw_V q2370 q2244 q2245 q95 q2246) rfl (by decide +kernel) (by decide) rfl (cat_len (Nat.le_of_ble_eq_true rfl)) (kk_R fun r29 h28 hg => ?_) (fun _ _ _ hx => hx.elim)
  have hf := hg
  clear hg
  refine v_qload_n (r := (some a0)) (i := 0) dX5_text_25 rfl rfl ?_
  replace hf := gI_e hf
  obtain ⟨w35, fs36, i34, hh37, hk38, hf⟩ := hf
  refine v_getf (T := TX5) (ci := 5) 2 dX5_text_26 q696 rfl in_X5 (Nat.le_of_ble_eq_true rfl) (Or.inl rfl) hh37 hk38 ?_
  refine v_if_ne 37 dX5_text_29 (by decide) (fun c39 => ?_) (fun c39 => ?_)
  · replace hf := hf.1 c39
    refine v_qload_n (r := (some a0)) (i := 0) dX5_text_37 rfl rfl ?_
    replace hf := gI_e hf
    obtain ⟨w41, fs42, i40, hh43, hk44, hf⟩ := hf
    refine v_getf (T := TX5) (ci := 5) 2 dX5_text_38 q696 rfl in_X5 (Nat.le_of_ble_eq_true rfl) (Or.inl rfl) hh43 hk44 ?_
    refine v_iconst (v := 1) dX5_text_41 (by decide) ?_
    refine v_icmp_ne 50 dX5_text_42 (by decide) (fun c45 => ?_) (fun c45 => ?_)
    · replace hf := hf.1 c45
      refine v_bipush (v := 101) dX5_text_50 (by decide) ?_
      obtain ⟨a46, rfl⟩ := rv_s hf
      replace hf := rv_e hf
      obtain ⟨w47, fs48, hh49, hf⟩ := hf
      refine v_callV (mc := 1) (ms := 100) 1 dX5_text_52 (m_J5_append hG hf) rfl hh49 rfl (lw_V q2371 q1979 q1980 q95 q1981) rfl (by decide +kernel) (by decide) rfl (cat_len (Nat.le_of_ble_eq_true rfl)) (kk_R fun r51 h50 hg => ?_) (fun _ _ _ hx => hx.elim)
      replace hf := hg
      clear hg
      refine v_qload_n (r := (some a0)) (i := 0) dX5_text_55 rfl rfl ?_
      replace hf := gI_e hf
      obtain ⟨w53, fs54, i52, hh55, hk56, hf⟩ := hf
      refine v_getf (T := TX5) (ci := 5) 1 dX5_text_56 q694 rfl in_X5 (Nat.le_of_ble_eq_true rfl) (Or.inl rfl) hh55 hk56 ?_
      obtain ⟨a57, rfl⟩ := rv_s hf
      replace hf := rv_e hf
      obtain ⟨w58, fs59, hh60, hf⟩ := hf
      obtain ⟨mc63, ms64, hkmc63, hnms64, hM⟩ := hf
      refine V.weak (k' := ((((k - mc9) - mc30) - mc63) + 9) + mc63) (n' := ((((n - ms10) - ms31) - ms64) + 528) + ms64) ?_ (by omega) (by omega)
      refine v_callV 1 dX5_text_59 hM rfl hh60 rfl (lw_V q2370 q2244 q2245 q95 q2246) rfl (by decide +kernel) (by decide) rfl (cat_len (Nat.le_of_ble_eq_true rfl)) (kk_R fun r62 h61 hg => ?_) (fun _ _ _ hx => hx.elim)
      have hf := hg
      clear hg
      refine v_pop dX5_text_62 (rf_cat _) ?_
      refine v_aload_n (i := 2) dX5_text_63 rfl rfl ?_
      refine v_qload_n (r := (some a0)) (i := 0) dX5_text_64 rfl rfl ?_
      replace hf := gI_e hf
      obtain ⟨w68, fs69, i67, hh70, hk71, hf⟩ := hf
      refine v_getf (T := TX5) (ci := 5) 4 dX5_text_65 q699 rfl in_X5 (Nat.le_of_ble_eq_true rfl) (Or.inl rfl) hh70 hk71 ?_
      refine v_if_eq 100 dX5_text_68 (by decide) (fun c72 => ?_) (fun c72 => ?_)
      · replace hf := hf.1 c72
        refine v_ldcS dX5_text_100 (List.mem_of_getElem? (i := 19) rfl) ?_
        replace hf := rv_e hf
        obtain ⟨w73, fs74, hh75, hf⟩ := hf
        refine v_callV (mc := 1) (ms := 100) 1 dX5_text_102 (m_J5_append_3 hG hf) rfl hh75 rfl (lw_V q2373 q2278 q2279 q95 q2280) rfl (by decide +kernel) (by decide) rfl (cat_len (Nat.le_of_ble_eq_true rfl)) (kk_R fun r77 h76 hg => ?_) (fun _ _ _ hx => hx.elim)
        replace hf := hg
        clear hg
        obtain ⟨a78, rfl⟩ := rv_s hf
        replace hf := rv_e hf
        obtain ⟨w79, fs80, hh81, hf⟩ := hf
        refine v_callV (mc := 2) (ms := 104) 0 dX5_text_105 (m_J5_toString hG hf) rfl hh81 rfl (lw_V q2374 q2308 q2309 q95 q2310) rfl (by decide +kernel) (by decide) rfl (cat_len (Nat.le_of_ble_eq_true rfl)) (kk_R fun r83 h82 hg => ?_) (fun _ _ _ hx => hx.elim)
        replace hf := hg
        clear hg
        exact v_qret (r := r83) dX5_text_108 rfl (Or.inl ⟨_, rfl⟩) ⟨_, rfl, hf⟩
      · replace hf := hf.2 c72
        refine v_new (N := 4) (fs := [.null, .int 0, .int 0, .int 0]) (ci := 13) dX5_text_71 q2368 q242 q95 rfl in_J5 tyJ5 tyJ5_ok rfl (fun a84 ha84 => ?_)
        replace hf := hf a84 ha84
        obtain ⟨h85, eh85⟩ : ∃ z, z = hs h61 a84 (true, .inr (13, [.null, .int 0, .int 0, .int 0])) := ⟨_, rfl⟩
        try rw [← eh85] at hf
        rw [← eh85]
        refine v_dup dX5_text_74 rfl ?_
        refine v_callI (mc := 1) (ms := 16) 0 dX5_text_75 (m_J5_init hG hf) rfl (lw_meth q245) rfl q95 q2369 q244 rfl rfl (by decide +kernel) (by decide) rfl (cat_len (Nat.le_of_ble_eq_true rfl)) (kk_V fun h86 hg => ?_) (fun _ _ _ hx => hx.elim)
        replace hf := hg
        clear hg
        refine v_ldcS dX5_text_78 (List.mem_of_getElem? (i := 18) rfl) ?_
        replace hf := rv_e hf
        obtain ⟨w87, fs88, hh89, hf⟩ := hf
        refine v_callV (mc := 1) (ms := 100) 1 dX5_text_80 (m_J5_append_3 hG hf) rfl hh89 rfl (lw_V q2373 q2278 q2279 q95 q2280) rfl (by decide +kernel) (by decide) rfl (cat_len (Nat.le_of_ble_eq_true rfl)) (kk_R fun r91 h90 hg => ?_) (fun _ _ _ hx => hx.elim)
        replace hf := hg
        clear hg
        refine v_bipush (v := 97) dX5_text_83 (by decide) ?_
        refine v_qload_n (r := (some a0)) (i := 0) dX5_text_85 rfl rfl ?_
        replace hf := gI_e hf
        obtain ⟨w93, fs94, i92, hh95, hk96, hf⟩ := hf
        refine v_getf (T := TX5) (ci := 5) 3 dX5_text_86 q697 rfl in_X5 (Nat.le_of_ble_eq_true rfl) (Or.inl rfl) hh95 hk96 ?_
        refine v_iadd dX5_text_89 ?_
        refine v_i2c (v := (((97 : Int32) + i92).toUInt32 % 65536).toInt32) dX5_text_90 rfl ?_
        obtain ⟨a97, rfl⟩ := rv_s hf
        replace hf := rv_e hf
        obtain ⟨w98, fs99, hh100, hf⟩ := hf
        refine v_callV (mc := 1) (ms := 100) 1 dX5_text_91 (m_J5_append hG hf) rfl hh100 rfl (lw_V q2371 q1979 q1980 q95 q1981) rfl (by decide +kernel) (by decide) rfl (cat_len (Nat.le_of_ble_eq_true rfl)) (kk_R fun r102 h101 hg => ?_) (fun _ _ _ hx => hx.elim)
        replace hf := hg
        clear hg
        obtain ⟨a103, rfl⟩ := rv_s hf
        replace hf := rv_e hf
        obtain ⟨w104, fs105, hh106, hf⟩ := hf
        refine v_callV (mc := 2) (ms := 104) 0 dX5_text_94 (m_J5_toString hG hf) rfl hh106 rfl (lw_V q2374 q2308 q2309 q95 q2310) rfl (by decide +kernel) (by decide) rfl (cat_len (Nat.le_of_ble_eq_true rfl)) (kk_R fun r108 h107 hg => ?_) (fun _ _ _ hx => hx.elim)
        replace hf := hg
        clear hg
        refine v_goto 102 dX5_text_97 (by decide) ?_
        replace hf := rv_e hf
        obtain ⟨w109, fs110, hh111, hf⟩ := hf
        refine v_callV (mc := 1) (ms := 100) 1 dX5_text_102 (m_J5_append_3 hG hf) rfl hh111 rfl (lw_V q2373 q2278 q2279 q95 q2280) rfl (by decide +kernel) (by decide) rfl (cat_len (Nat.le_of_ble_eq_true rfl)) (kk_R fun r113 h112 hg => ?_) (fun _ _ _ hx => hx.elim)
        replace hf := hg
        clear hg
        obtain ⟨a114, rfl⟩ := rv_s hf
        replace hf := rv_e hf
        obtain ⟨w115, fs116, hh117, hf⟩ := hf
        refine v_callV (mc := 2) (ms := 104) 0 dX5_text_105 (m_J5_toString hG hf) rfl hh117 rfl (lw_V q2374 q2308 q2309 q95 q2310) rfl (by decide +kernel) (by decide) rfl (cat_len (Nat.le_of_ble_eq_true rfl)) (kk_R fun r119 h118 hg => ?_) (fun _ _ _ hx => hx.elim)
        replace hf := hg
        clear hg
        exact v_qret (r := r119) dX5_text_108 rfl (Or.inl ⟨_, rfl⟩) ⟨_, rfl, hf⟩
    · replace hf := hf.2 c45
      refine v_bipush (v := 111) dX5_text_45 (by decide) ?_
      refine v_goto 52 dX5_text_47 (by decide) ?_
      obtain ⟨a120, rfl⟩ := rv_s hf
      replace hf := rv_e hf
      obtain ⟨w121, fs122, hh123, hf⟩ := hf
      refine v_callV (mc := 1) (ms := 100) 1 dX5_text_52 (m_J5_append hG hf) rfl hh123 rfl (lw_V q2371 q1979 q1980 q95 q1981) rfl (by decide +kernel) (by decide) rfl (cat_len (Nat.le_of_ble_eq_true rfl)) (kk_R fun r125 h124 hg => ?_) (fun _ _ _ hx => hx.elim)
      replace hf := hg
      clear hg
      refine v_qload_n (r := (some a0)) (i := 0) dX5_text_55 rfl rfl ?_
      replace hf := gI_e hf
      obtain ⟨w127, fs128, i126, hh129, hk130, hf⟩ := hf
      refine v_getf (T := TX5) (ci := 5) 1 dX5_text_56 q694 rfl in_X5 (Nat.le_of_ble_eq_true rfl) (Or.inl rfl) hh129 hk130 ?_
      obtain ⟨a131, rfl⟩ := rv_s hf
      replace hf := rv_e hf
      obtain ⟨w132, fs133, hh134, hf⟩ := hf
      obtain ⟨mc137, ms138, hkmc137, hnms138, hM⟩ := hf
      refine V.weak (k' := ((((k - mc9) - mc30) - mc137) + 9) + mc137) (n' := ((((n - ms10) - ms31) - ms138) + 528) + ms138) ?_ (by omega) (by omega)
      refine v_callV 1 dX5_text_59 hM rfl hh134 rfl (lw_V q2370 q2244 q2245 q95 q2246) rfl (by decide +kernel) (by decide) rfl (cat_len (Nat.le_of_ble_eq_true rfl)) (kk_R fun r136 h135 hg => ?_) (fun _ _ _ hx => hx.elim)
      have hf := hg
      clear hg
      refine v_pop dX5_text_62 (rf_cat _) ?_
      refine v_aload_n (i := 2) dX5_text_63 rfl rfl ?_
      refine v_qload_n (r := (some a0)) (i := 0) dX5_text_64 rfl rfl ?_
      replace hf := gI_e hf
      obtain ⟨w142, fs143, i141, hh144, hk145, hf⟩ := hf
      refine v_getf (T := TX5) (ci := 5) 4 dX5_text_65 q699 rfl in_X5 (Nat.le_of_ble_eq_true rfl) (Or.inl rfl) hh144 hk145 ?_
      refine v_if_eq 100 dX5_text_68 (by decide) (fun c146 => ?_) (fun c146 => ?_)
      · replace hf := hf.1 c146
        refine v_ldcS dX5_text_100 (List.mem_of_getElem? (i := 19) rfl) ?_
        replace hf := rv_e hf
        obtain ⟨w147, fs148, hh149, hf⟩ := hf
        refine v_callV (mc := 1) (ms := 100) 1 dX5_text_102 (m_J5_append_3 hG hf) rfl hh149 rfl (lw_V q2373 q2278 q2279 q95 q2280) rfl (by decide +kernel) (by decide) rfl (cat_len (Nat.le_of_ble_eq_true rfl)) (kk_R fun r151 h150 hg => ?_) (fun _ _ _ hx => hx.elim)
        replace hf := hg
        clear hg
        obtain ⟨a152, rfl⟩ := rv_s hf
        replace hf := rv_e hf
        obtain ⟨w153, fs154, hh155, hf⟩ := hf
        refine v_callV (mc := 2) (ms := 104) 0 dX5_text_105 (m_J5_toString hG hf) rfl hh155 rfl (lw_V q2374 q2308 q2309 q95 q2310) rfl (by decide +kernel) (by decide) rfl (cat_len (Nat.le_of_ble_eq_true rfl)) (kk_R fun r157 h156 hg => ?_) (fun _ _ _ hx => hx.elim)
        replace hf := hg
        clear hg
        exact v_qret (r := r157) dX5_text_108 rfl (Or.inl ⟨_, rfl⟩) ⟨_, rfl, hf⟩
      · replace hf := hf.2 c146
        refine v_new (N := 4) (fs := [.null, .int 0, .int 0, .int 0]) (ci := 13) dX5_text_71 q2368 q242 q95 rfl in_J5 tyJ5 tyJ5_ok rfl (fun a158 ha158 => ?_)
        replace hf := hf a158 ha158
        obtain ⟨h159, eh159⟩ : ∃ z, z = hs h135 a158 (true, .inr (13, [.null, .int 0, .int 0, .int 0])) := ⟨_, rfl⟩
        try rw [← eh159] at hf
        rw [← eh159]
        refine v_dup dX5_text_74 rfl ?_
        refine v_callI (mc := 1) (ms := 16) 0 dX5_text_75 (m_J5_init hG hf) rfl (lw_meth q245) rfl q95 q2369 q244 rfl rfl (by decide +kernel) (by decide) rfl (cat_len (Nat.le_of_ble_eq_true rfl)) (kk_V fun h160 hg => ?_) (fun _ _ _ hx => hx.elim)
        replace hf := hg
        clear hg
        refine v_ldcS dX5_text_78 (List.mem_of_getElem? (i := 18) rfl) ?_
        replace hf := rv_e hf
        obtain ⟨w161, fs162, hh163, hf⟩ := hf
        refine v_callV (mc := 1) (ms := 100) 1 dX5_text_80 (m_J5_append_3 hG hf) rfl hh163 rfl (lw_V q2373 q2278 q2279 q95 q2280) rfl (by decide +kernel) (by decide) rfl (cat_len (Nat.le_of_ble_eq_true rfl)) (kk_R fun r165 h164 hg => ?_) (fun _ _ _ hx => hx.elim)
        replace hf := hg
        clear hg
        refine v_bipush (v := 97) dX5_text_83 (by decide) ?_
        refine v_qload_n (r := (some a0)) (i := 0) dX5_text_85 rfl rfl ?_
        replace hf := gI_e hf
        obtain ⟨w167, fs168, i166, hh169, hk170, hf⟩ := hf
        refine v_getf (T := TX5) (ci := 5) 3 dX5_text_86 q697 rfl in_X5 (Nat.le_of_ble_eq_true rfl) (Or.inl rfl) hh169 hk170 ?_
        refine v_iadd dX5_text_89 ?_
        refine v_i2c (v := (((97 : Int32) + i166).toUInt32 % 65536).toInt32) dX5_text_90 rfl ?_
        obtain ⟨a171, rfl⟩ := rv_s hf
        replace hf := rv_e hf
        obtain ⟨w172, fs173, hh174, hf⟩ := hf
        refine v_callV (mc := 1) (ms := 100) 1 dX5_text_91 (m_J5_append hG hf) rfl hh174 rfl (lw_V q2371 q1979 q1980 q95 q1981) rfl (by decide +kernel) (by decide) rfl (cat_len (Nat.le_of_ble_eq_true rfl)) (kk_R fun r176 h175 hg => ?_) (fun _ _ _ hx => hx.elim)
        replace hf := hg
        clear hg
        obtain ⟨a177, rfl⟩ := rv_s hf
        replace hf := rv_e hf
        obtain ⟨w178, fs179, hh180, hf⟩ := hf
        refine v_callV (mc := 2) (ms := 104) 0 dX5_text_94 (m_J5_toString hG hf) rfl hh180 rfl (lw_V q2374 q2308 q2309 q95 q2310) rfl (by decide +kernel) (by decide) rfl (cat_len (Nat.le_of_ble_eq_true rfl)) (kk_R fun r182 h181 hg => ?_) (fun _ _ _ hx => hx.elim)
        replace hf := hg
        clear hg
        refine v_goto 102 dX5_text_97 (by decide) ?_
        replace hf := rv_e hf
        obtain ⟨w183, fs184, hh185, hf⟩ := hf
        refine v_callV (mc := 1) (ms := 100) 1 dX5_text_102 (m_J5_append_3 hG hf) rfl hh185 rfl (lw_V q2373 q2278 q2279 q95 q2280) rfl (by decide +kernel) (by decide) rfl (cat_len (Nat.le_of_ble_eq_true rfl)) (kk_R fun r187 h186 hg => ?_) (fun _ _ _ hx => hx.elim)
        replace hf := hg
        clear hg
        obtain ⟨a188, rfl⟩ := rv_s hf
        replace hf := rv_e hf
        obtain ⟨w189, fs190, hh191, hf⟩ := hf
        refine v_callV (mc := 2) (ms := 104) 0 dX5_text_105 (m_J5_toString hG hf) rfl hh191 rfl (lw_V q2374 q2308 q2309 q95 q2310) rfl (by decide +kernel) (by decide) rfl (cat_len (Nat.le_of_ble_eq_true rfl)) (kk_R fun r193 h192 hg => ?_) (fun _ _ _ hx => hx.elim)
        replace hf := hg
        clear hg
        exact v_qret (r := r193) dX5_text_108 rfl (Or.inl ⟨_, rfl⟩) ⟨_, rfl, hf⟩
  · replace hf := hf.2 c39
    refine v_bipush (v := 45) dX5_text_32 (by decide) ?_
    refine v_goto 52 dX5_text_34 (by decide) ?_
    obtain ⟨a194, rfl⟩ := rv_s hf
    replace hf := rv_e hf
    obtain ⟨w195, fs196, hh197, hf⟩ := hf
    refine v_callV (mc := 1) (ms := 100) 1 dX5_text_52 (m_J5_append hG hf) rfl hh197 rfl (lw_V q2371 q1979 q1980 q95 q1981) rfl (by decide +kernel) (by decide) rfl (cat_len (Nat.le_of_ble_eq_true rfl)) (kk_R fun r199 h198 hg => ?_) (fun _ _ _ hx => hx.elim)
    replace hf := hg
    clear hg
    refine v_qload_n (r := (some a0)) (i := 0) dX5_text_55 rfl rfl ?_
    replace hf := gI_e hf
    obtain ⟨w201, fs202, i200, hh203, hk204, hf⟩ := hf
    refine v_getf (T := TX5) (ci := 5) 1 dX5_text_56 q694 rfl in_X5 (Nat.le_of_ble_eq_true rfl) (Or.inl rfl) hh203 hk204 ?_
    obtain ⟨a205, rfl⟩ := rv_s hf
    replace hf := rv_e hf
    obtain ⟨w206, fs207, hh208, hf⟩ := hf
    obtain ⟨mc211, ms212, hkmc211, hnms212, hM⟩ := hf
    refine V.weak (k' := ((((k - mc9) - mc30) - mc211) + 9) + mc211) (n' := ((((n - ms10) - ms31) - ms212) + 528) + ms212) ?_ (by omega) (by omega)
    refine v_callV 1 dX5_text_59 hM rfl hh208 rfl (lw_V q2370 q2244 q2245 q95 q2246) rfl (by decide +kernel) (by decide) rfl (cat_len (Nat.le_of_ble_eq_true rfl)) (kk_R fun r210 h209 hg => ?_) (fun _ _ _ hx => hx.elim)
    have hf := hg
    clear hg
    refine v_pop dX5_text_62 (rf_cat _) ?_
    refine v_aload_n (i := 2) dX5_text_63 rfl rfl ?_
    refine v_qload_n (r := (some a0)) (i := 0) dX5_text_64 rfl rfl ?_
    replace hf := gI_e hf
    obtain ⟨w216, fs217, i215, hh218, hk219, hf⟩ := hf
    refine v_getf (T := TX5) (ci := 5) 4 dX5_text_65 q699 rfl in_X5 (Nat.le_of_ble_eq_true rfl) (Or.inl rfl) hh218 hk219 ?_
    refine v_if_eq 100 dX5_text_68 (by decide) (fun c220 => ?_) (fun c220 => ?_)
    · replace hf := hf.1 c220
      refine v_ldcS dX5_text_100 (List.mem_of_getElem? (i := 19) rfl) ?_
      replace hf := rv_e hf
      obtain ⟨w221, fs222, hh223, hf⟩ := hf
      refine v_callV (mc := 1) (ms := 100) 1 dX5_text_102 (m_J5_append_3 hG hf) rfl hh223 rfl (lw_V q2373 q2278 q2279 q95 q2280) rfl (by decide +kernel) (by decide) rfl (cat_len (Nat.le_of_ble_eq_true rfl)) (kk_R fun r225 h224 hg => ?_) (fun _ _ _ hx => hx.elim)
      replace hf := hg
      clear hg
      obtain ⟨a226, rfl⟩ := rv_s hf
      replace hf := rv_e hf
      obtain ⟨w227, fs228, hh229, hf⟩ := hf
      refine v_callV (mc := 2) (ms := 104) 0 dX5_text_105 (m_J5_toString hG hf) rfl hh229 rfl (lw_V q2374 q2308 q2309 q95 q2310) rfl (by decide +kernel) (by decide) rfl (cat_len (Nat.le_of_ble_eq_true rfl)) (kk_R fun r231 h230 hg => ?_) (fun _ _ _ hx => hx.elim)
      replace hf := hg
      clear hg
      exact v_qret (r := r231) dX5_text_108 rfl (Or.inl ⟨_, rfl⟩) ⟨_, rfl, hf⟩
    · replace hf := hf.2 c220
      refine v_new (N := 4) (fs := [.null, .int 0, .int 0, .int 0]) (ci := 13) dX5_text_71 q2368 q242 q95 rfl in_J5 tyJ5 tyJ5_ok rfl (fun a232 ha232 => ?_)
      replace hf := hf a232 ha232
      obtain ⟨h233, eh233⟩ : ∃ z, z = hs h209 a232 (true, .inr (13, [.null, .int 0, .int 0, .int 0])) := ⟨_, rfl⟩
      try rw [← eh233] at hf
      rw [← eh233]
      refine v_dup dX5_text_74 rfl ?_
      refine v_callI (mc := 1) (ms := 16) 0 dX5_text_75 (m_J5_init hG hf) rfl (lw_meth q245) rfl q95 q2369 q244 rfl rfl (by decide +kernel) (by decide) rfl (cat_len (Nat.le_of_ble_eq_true rfl)) (kk_V fun h234 hg => ?_) (fun _ _ _ hx => hx.elim)
      replace hf := hg
      clear hg
      refine v_ldcS dX5_text_78 (List.mem_of_getElem? (i := 18) rfl) ?_
      replace hf := rv_e hf
      obtain ⟨w235, fs236, hh237, hf⟩ := hf
      refine v_callV (mc := 1) (ms := 100) 1 dX5_text_80 (m_J5_append_3 hG hf) rfl hh237 rfl (lw_V q2373 q2278 q2279 q95 q2280) rfl (by decide +kernel) (by decide) rfl (cat_len (Nat.le_of_ble_eq_true rfl)) (kk_R fun r239 h238 hg => ?_) (fun _ _ _ hx => hx.elim)
      replace hf := hg
      clear hg
      refine v_bipush (v := 97) dX5_text_83 (by decide) ?_
      refine v_qload_n (r := (some a0)) (i := 0) dX5_text_85 rfl rfl ?_
      replace hf := gI_e hf
      obtain ⟨w241, fs242, i240, hh243, hk244, hf⟩ := hf
      refine v_getf (T := TX5) (ci := 5) 3 dX5_text_86 q697 rfl in_X5 (Nat.le_of_ble_eq_true rfl) (Or.inl rfl) hh243 hk244 ?_
      refine v_iadd dX5_text_89 ?_
      refine v_i2c (v := (((97 : Int32) + i240).toUInt32 % 65536).toInt32) dX5_text_90 rfl ?_
      obtain ⟨a245, rfl⟩ := rv_s hf
      replace hf := rv_e hf
      obtain ⟨w246, fs247, hh248, hf⟩ := hf
      refine v_callV (mc := 1) (ms := 100) 1 dX5_text_91 (m_J5_append hG hf) rfl hh248 rfl (lw_V q2371 q1979 q1980 q95 q1981) rfl (by decide +kernel) (by decide) rfl (cat_len (Nat.le_of_ble_eq_true rfl)) (kk_R fun r250 h249 hg => ?_) (fun _ _ _ hx => hx.elim)
      replace hf := hg
      clear hg
      obtain ⟨a251, rfl⟩ := rv_s hf
      replace hf := rv_e hf
      obtain ⟨w252, fs253, hh254, hf⟩ := hf
      refine v_callV (mc := 2) (ms := 104) 0 dX5_text_94 (m_J5_toString hG hf) rfl hh254 rfl (lw_V q2374 q2308 q2309 q95 q2310) rfl (by decide +kernel) (by decide) rfl (cat_len (Nat.le_of_ble_eq_true rfl)) (kk_R fun r256 h255 hg => ?_) (fun _ _ _ hx => hx.elim)
      replace hf := hg
      clear hg
      refine v_goto 102 dX5_text_97 (by decide) ?_
      replace hf := rv_e hf
      obtain ⟨w257, fs258, hh259, hf⟩ := hf
      refine v_callV (mc := 1) (ms := 100) 1 dX5_text_102 (m_J5_append_3 hG hf) rfl hh259 rfl (lw_V q2373 q2278 q2279 q95 q2280) rfl (by decide +kernel) (by decide) rfl (cat_len (Nat.le_of_ble_eq_true rfl)) (kk_R fun r261 h260 hg => ?_) (fun _ _ _ hx => hx.elim)
      replace hf := hg
      clear hg
      obtain ⟨a262, rfl⟩ := rv_s hf
      replace hf := rv_e hf
      obtain ⟨w263, fs264, hh265, hf⟩ := hf
      refine v_callV (mc := 2) (ms := 104) 0 dX5_text_105 (m_J5_toString hG hf) rfl hh265 rfl (lw_V q2374 q2308 q2309 q95 q2310) rfl (by decide +kernel) (by decide) rfl (cat_len (Nat.le_of_ble_eq_true rfl)) (kk_R fun r267 h266 hg => ?_) (fun _ _ _ hx => hx.elim)
      replace hf := hg
      clear hg
      exact v_qret (r := r267) dX5_text_108 rfl (Or.inl ⟨_, rfl⟩) ⟨_, rfl, hf⟩
abbrev Y_X0_tellDoor : Yt := (yX0_tellDoor, some (.int), 8, 198, [])
def f_X0_tellDoor (G : Gt) (h : Hp) (k n : Nat) (t_0 : Option Nat) (i_1 : Int32) (K : Int32 → Hp → Prop) : Prop :=
gR h t_0 0 0 fun r1 =>
rv h r1 1 (f_X1_isDoor G h r1 i_1 (fun i11 h10 =>
((¬ (i11 = 0) → gR h10 t_0 0 0 fun r13 =>
gR h10 r13 1 1 fun r18 =>
rv h10 r18 10 (f_J2_get G h10 r18 i_1 (fun r29 h28 =>
(oc h28 r29 5 ∧ rv h28 r29 5 (dR G Y_X5_text cX5_text 3 [va_rf r29, .int i_1] h28 k n (fun r35 h34 k38 n39 =>
pF h34 t_0 0 6 (va_rf r35) fun h42 =>
gR h42 t_0 0 6 fun r43 =>
rv h42 r43 14 (f_J6_length G h42 r43 (fun i53 h52 =>
K i53 h52))) xN))))) ∧
(i11 = 0 → K (-1011 : Int32) h10))))
theorem m_X0_tellDoor {G : Gt} {h : Hp} {mc ms : Nat} {a0 : Nat} {i_1 : Int32} {K : Int32 → Hp → Prop} (hG : Base G) (hA : 0 ≤ mc) (hB : 0 ≤ ms) (hf : f_X0_tellDoor G h (mc - 0) (ms - 0) (some a0) i_1 K) : MM G Y_X0_tellDoor cX0_tellDoor 2 mc ms [.ref a0, .int i_1] h (kI K) xN := by
  refine mm_of hG (by decide +kernel) rfl (ac_c rfl (ac_c rfl ac_nil)) (Nat.le_of_ble_eq_true rfl) (fun E _ _ => ?_)
  obtain ⟨k, hk9⟩ : ∃ z, z = mc - 0 := ⟨_, rfl⟩
  obtain ⟨n, hn9⟩ : ∃ z, z = ms - 0 := ⟨_, rfl⟩
  rw [← hk9, ← hn9] at hf
  refine V.weak (k' := k + 0) (n' := n + 0) ?_ (by omega) (by omega)
  show V G E Y_X0_tellDoor cX0_tellDoor 2 (QM G E (kI K) xN) h (k + 0) (n + 0) 0 [(0, .ref a0), (1, .int i_1)] []
  unfold f_X0_tellDoor at hf
  refine v_qload_n (r := (some a0)) (i := 0) dX0_tellDoor_0 rfl rfl ?_
  replace hf := gR_e hf
  obtain ⟨w2, fs3, r1, hh4, hk5, hf⟩ := hf
  refine v_getf (T := TX0) (ci := 0) 0 dX0_tellDoor_1 q275 rfl in_X0 (Nat.le_of_ble_eq_true rfl) (Or.inl rfl) hh4 hk5 ?_
  refine v_iload_n (i := 1) dX0_tellDoor_4 rfl rfl ?_
  obtain ⟨a6, rfl⟩ := rv_s hf
  replace hf := rv_e hf
  obtain ⟨w7, fs8, hh9, hf⟩ := hf
  refine V.addK0 ?_
  refine V.addN0 ?_
  refine v_callV (mc := 0) (ms := 0) 1 dX0_tellDoor_5 (m_X1_isDoor hG hf) rfl hh9 rfl (lw_V q1666 q1667 q1668 q89 q1669) rfl (by decide +kernel) (by decide) rfl (cat_len (Nat.le_of_ble_eq_true rfl)) (kk_I fun i11 h10 hg => ?_) (fun _ _ _ hx => hx.elim)
  replace hf := hg
  clear hg
  refine v_if_ne 15 dX0_tellDoor_8 (by decide) (fun c12 => ?_) (fun c12 => ?_)
  · replace hf := hf.1 c12
    refine v_qload_n (r := (some a0)) (i := 0) dX0_tellDoor_15 rfl rfl ?_
    refine v_qload_n (r := (some a0)) (i := 0) dX0_tellDoor_16 rfl rfl ?_
    replace hf := gR_e hf
    obtain ⟨w14, fs15, r13, hh16, hk17, hf⟩ := hf
    refine v_getf (T := TX0) (ci := 0) 0 dX0_tellDoor_17 q275 rfl in_X0 (Nat.le_of_ble_eq_true rfl) (Or.inl rfl) hh16 hk17 ?_
    obtain ⟨a19, rfl⟩ := gR_s hf
    replace hf := gR_e hf
    obtain ⟨w20, fs21, r18, hh22, hk23, hf⟩ := hf
    refine v_getfN (T := TX1) (ci := 1) 1 dX0_tellDoor_20 q191 rfl in_X1 (Nat.le_of_ble_eq_true rfl) (Or.inl rfl) hh22 hk23 ?_
    refine v_iload_n (i := 1) dX0_tellDoor_23 rfl rfl ?_
    obtain ⟨a24, rfl⟩ := rv_s hf
    replace hf := rv_e hf
    obtain ⟨w25, fs26, hh27, hf⟩ := hf
    refine V.addK0 ?_
    refine V.addN0 ?_
    refine v_callV (mc := 0) (ms := 0) 1 dX0_tellDoor_24 (m_J2_get hG hf) rfl hh27 rfl (lw_V q1670 q661 q662 q92 q663) rfl (by decide +kernel) (by decide) rfl (cat_len (Nat.le_of_ble_eq_true rfl)) (kk_R fun r29 h28 hg => ?_) (fun _ _ _ hx => hx.elim)
    replace hf := hg
    clear hg
    obtain ⟨hoc, hf⟩ := hf
    refine v_castQS (r := r29) dX0_tellDoor_27 q1671 hoc rfl ?_
    refine v_iload_n (i := 1) dX0_tellDoor_30 rfl rfl ?_
    obtain ⟨a30, rfl⟩ := rv_s hf
    replace hf := rv_e hf
    obtain ⟨w31, fs32, hh33, hf⟩ := hf
    obtain ⟨mc36, ms37, hkmc36, hnms37, hM⟩ := hf
    refine V.weak (k' := ((k - mc36) + 0) + mc36) (n' := ((n - ms37) + 0) + ms37) ?_ (by omega) (by omega)
    refine v_callV 1 dX0_tellDoor_31 hM rfl hh33 rfl (lw_V q2364 q2365 q2366 q110 q2367) rfl (by decide +kernel) (by decide) rfl (cat_len (Nat.le_of_ble_eq_true rfl)) (kk_R fun r35 h34 hg => ?_) (fun _ _ _ hx => hx.elim)
    have hf := hg
    clear hg
    replace hf := pF_e hf
    obtain ⟨fs40, hh41, hf⟩ := hf
    refine v_putf (v := va_rf r35) (T := TX0) (ci := 0) (ty := .object "java/lang/String") 6 dX0_tellDoor_34 q282 rfl in_X0 tyX0 tyX0_ok nmX0 (Nat.le_of_ble_eq_true rfl) (Or.inl rfl) rfl (by decide +kernel) (rf_nar _ _) (rf_fit _ _) hh41 ?_
    obtain ⟨h42, eh42⟩ : ∃ z, z = hs h34 a0 (true, .inr (0, fs40.set 6 (va_rf r35))) := ⟨_, rfl⟩
    try rw [← eh42] at hf
    rw [← eh42]
    refine v_qload_n (r := (some a0)) (i := 0) dX0_tellDoor_37 rfl rfl ?_
    replace hf := gR_e hf
    obtain ⟨w44, fs45, r43, hh46, hk47, hf⟩ := hf
    refine v_getf (T := TX0) (ci := 0) 6 dX0_tellDoor_38 q282 rfl in_X0 (Nat.le_of_ble_eq_true rfl) (Or.inl rfl) hh46 hk47 ?_
    obtain ⟨a48, rfl⟩ := rv_s hf
    replace hf := rv_e hf
    obtain ⟨w49, fs50, hh51, hf⟩ := hf
    refine V.addK0 ?_
    refine V.addN0 ?_
    refine v_callV (mc := 0) (ms := 0) 0 dX0_tellDoor_41 (m_J6_length hG hf) rfl hh51 rfl (lw_V q2359 q2085 q2086 q96 q2087) rfl (by decide +kernel) (by decide) rfl (cat_len (Nat.le_of_ble_eq_true rfl)) (kk_I fun i53 h52 hg => ?_) (fun _ _ _ hx => hx.elim)
    replace hf := hg
    clear hg
    exact v_iret dX0_tellDoor_44 rfl ⟨_, rfl, hf⟩
  · replace hf := hf.2 c12
    refine v_sipush (v := -1011) dX0_tellDoor_11 (by decide) ?_
    exact v_iret dX0_tellDoor_14 rfl ⟨_, rfl, hf⟩
abbrev Y_X0_character : Yt := (yX0_character, some (.int), 5, 125, [])
def f_X0_character (G : Gt) (h : Hp) (t_0 : Option Nat) (i_1 : Int32) (K : Int32 → Hp → Prop) : Prop :=
gR h t_0 0 6 fun r1 =>
rv h r1 14 (f_J6_length G h r1 (fun i11 h10 =>
f_X0_isIn G h10 i_1 (0 : Int32) (i11 - (1 : Int32)) (fun i13 h12 =>
((i13 = 0 → K (-1011 : Int32) h12) ∧
(¬ (i13 = 0) → gR h12 t_0 0 6 fun r15 =>
rv h12 r15 14 (f_J6_charAt G h12 r15 i_1 (fun i25 h24 =>
K i25 h24)))))))
theorem m_X0_character {G : Gt} {h : Hp} {a0 : Nat} {i_1 : Int32} {K : Int32 → Hp → Prop} (hG : Base G) (hf : f_X0_character G h (some a0) i_1 K) : MM G Y_X0_character cX0_character 2 0 0 [.ref a0, .int i_1] h (kI K) xN := by
  refine mm_of hG (by decide +kernel) rfl (ac_c rfl (ac_c rfl ac_nil)) (Nat.le_of_ble_eq_true rfl) (fun E _ _ => ?_)
  show V G E Y_X0_character cX0_character 2 (QM G E (kI K) xN) h 0 0 0 [(0, .ref a0), (1, .int i_1)] []
  unfold f_X0_character at hf
  refine v_iload_n (i := 1) dX0_character_0 rfl rfl ?_
  refine v_iconst (v := 0) dX0_character_1 (by decide) ?_
  refine v_qload_n (r := (some a0)) (i := 0) dX0_character_2 rfl rfl ?_
  replace hf := gR_e hf
  obtain ⟨w2, fs3, r1, hh4, hk5, hf⟩ := hf
  refine v_getf (T := TX0) (ci := 0) 6 dX0_character_3 q282 rfl in_X0 (Nat.le_of_ble_eq_true rfl) (Or.inl rfl) hh4 hk5 ?_
  obtain ⟨a6, rfl⟩ := rv_s hf
  replace hf := rv_e hf
  obtain ⟨w7, fs8, hh9, hf⟩ := hf
  refine V.addK0 ?_
  refine V.addN0 ?_
  refine v_callV (mc := 0) (ms := 0) 0 dX0_character_6 (m_J6_length hG hf) rfl hh9 rfl (lw_V q2359 q2085 q2086 q96 q2087) rfl (by decide +kernel) (by decide) rfl (cat_len (Nat.le_of_ble_eq_true rfl)) (kk_I fun i11 h10 hg => ?_) (fun _ _ _ hx => hx.elim)
  replace hf := hg
  clear hg
  refine v_iconst (v := 1) dX0_character_9 (by decide) ?_
  refine v_isub dX0_character_10 ?_
  refine V.addK0 ?_
  refine V.addN0 ?_
  refine v_callS (mc := 0) (ms := 0) 3 dX0_character_11 (m_X0_isIn hG hf) rfl (lw_S q306 q307 q88 q308) rfl (by decide +kernel) (by decide) rfl (cat_len (Nat.le_of_ble_eq_true rfl)) (kk_I fun i13 h12 hg => ?_) (fun _ _ _ hx => hx.elim)
  replace hf := hg
  clear hg
  refine v_if_eq 28 dX0_character_14 (by decide) (fun c14 => ?_) (fun c14 => ?_)
  · replace hf := hf.1 c14
    refine v_sipush (v := -1011) dX0_character_28 (by decide) ?_
    exact v_iret dX0_character_31 rfl ⟨_, rfl, hf⟩
  · replace hf := hf.2 c14
    refine v_qload_n (r := (some a0)) (i := 0) dX0_character_17 rfl rfl ?_
    replace hf := gR_e hf
    obtain ⟨w16, fs17, r15, hh18, hk19, hf⟩ := hf
    refine v_getf (T := TX0) (ci := 0) 6 dX0_character_18 q282 rfl in_X0 (Nat.le_of_ble_eq_true rfl) (Or.inl rfl) hh18 hk19 ?_
    refine v_iload_n (i := 1) dX0_character_21 rfl rfl ?_
    obtain ⟨a20, rfl⟩ := rv_s hf
    replace hf := rv_e hf
    obtain ⟨w21, fs22, hh23, hf⟩ := hf
    refine V.addK0 ?_
    refine V.addN0 ?_
    refine v_callV (mc := 0) (ms := 0) 1 dX0_character_22 (m_J6_charAt hG hf) rfl hh23 rfl (lw_V q2380 q2100 q2101 q96 q2102) rfl (by decide +kernel) (by decide) rfl (cat_len (Nat.le_of_ble_eq_true rfl)) (kk_I fun i25 h24 hg => ?_) (fun _ _ _ hx => hx.elim)
    replace hf := hg
    clear hg
    refine v_goto 31 dX0_character_25 (by decide) ?_
    exact v_iret dX0_character_31 rfl ⟨_, rfl, hf⟩
abbrev Y_X0_reason : Yt := (yX0_reason, some (.int), 1, 40, [])
def f_X0_reason (G : Gt) (h : Hp) (t_0 : Option Nat) (i_1 : Int32) (K : Int32 → Hp → Prop) : Prop :=
gI h t_0 0 3 fun i1 =>
((¬ (i1 = 0) → ((i_1 = 0 → gI h t_0 0 3 fun i8 =>
K i8 h) ∧
(¬ (i_1 = 0) → gI h t_0 0 4 fun i13 =>
K i13 h))) ∧
(i1 = 0 → K (-1015 : Int32) h))
theorem m_X0_reason {G : Gt} {h : Hp} {a0 : Nat} {i_1 : Int32} {K : Int32 → Hp → Prop} (hG : Base G) (hf : f_X0_reason G h (some a0) i_1 K) : MM G Y_X0_reason cX0_reason 2 0 0 [.ref a0, .int i_1] h (kI K) xN := by
  refine mm_of hG (by decide +kernel) rfl (ac_c rfl (ac_c rfl ac_nil)) (Nat.le_of_ble_eq_true rfl) (fun E _ _ => ?_)
  show V G E Y_X0_reason cX0_reason 2 (QM G E (kI K) xN) h 0 0 0 [(0, .ref a0), (1, .int i_1)] []
  unfold f_X0_reason at hf
  refine v_qload_n (r := (some a0)) (i := 0) dX0_reason_0 rfl rfl ?_
  replace hf := gI_e hf
  obtain ⟨w2, fs3, i1, hh4, hk5, hf⟩ := hf
  refine v_getf (T := TX0) (ci := 0) 3 dX0_reason_1 q278 rfl in_X0 (Nat.le_of_ble_eq_true rfl) (Or.inl rfl) hh4 hk5 ?_
  refine v_if_ne 13 dX0_reason_4 (by decide) (fun c6 => ?_) (fun c6 => ?_)
  · replace hf := hf.1 c6
    refine v_iload_n (i := 1) dX0_reason_13 rfl rfl ?_
    refine v_if_eq 24 dX0_reason_14 (by decide) (fun c7 => ?_) (fun c7 => ?_)
    · replace hf := hf.1 c7
      refine v_qload_n (r := (some a0)) (i := 0) dX0_reason_24 rfl rfl ?_
      replace hf := gI_e hf
      obtain ⟨w9, fs10, i8, hh11, hk12, hf⟩ := hf
      refine v_getf (T := TX0) (ci := 0) 3 dX0_reason_25 q278 rfl in_X0 (Nat.le_of_ble_eq_true rfl) (Or.inl rfl) hh11 hk12 ?_
      exact v_iret dX0_reason_28 rfl ⟨_, rfl, hf⟩
    · replace hf := hf.2 c7
      refine v_qload_n (r := (some a0)) (i := 0) dX0_reason_17 rfl rfl ?_
      replace hf := gI_e hf
      obtain ⟨w14, fs15, i13, hh16, hk17, hf⟩ := hf
      refine v_getf (T := TX0) (ci := 0) 4 dX0_reason_18 q279 rfl in_X0 (Nat.le_of_ble_eq_true rfl) (Or.inl rfl) hh16 hk17 ?_
      refine v_goto 28 dX0_reason_21 (by decide) ?_
      exact v_iret dX0_reason_28 rfl ⟨_, rfl, hf⟩
  · replace hf := hf.2 c6
    refine v_sipush (v := -1015) dX0_reason_7 (by decide) ?_
    refine v_goto 28 dX0_reason_10 (by decide) ?_
    exact v_iret dX0_reason_28 rfl ⟨_, rfl, hf⟩
abbrev Y_X0_account : Yt := (yX0_account, some (.int), 4, 105, [])
def f_X0_account (G : Gt) (h : Hp) (k n : Nat) (t_0 : Option Nat) (i_1 : Int32) (K : Int32 → Hp → Prop) : Prop :=
((i_1 = (0 : Int32) → gR h t_0 0 0 fun r1 =>
rv h r1 1 (f_X1_many G h r1 (fun i11 h10 =>
K i11 h10))) ∧
(i_1 = (1 : Int32) → gR h t_0 0 0 fun r12 =>
gR h r12 1 1 fun r17 =>
rv h r17 10 (f_J2_size G h r17 (fun i28 h27 =>
K i28 h27))) ∧
(i_1 = (2 : Int32) → gR h t_0 0 0 fun r29 =>
rv h r29 1 (dI G Y_X1_lit cX1_lit 4 [va_rf r29] h k n (fun i39 h38 k42 n43 =>
K i39 h38) xN)) ∧
(i_1 = (3 : Int32) → gR h t_0 0 0 fun r44 =>
rv h r44 1 (dI G Y_X1_shut cX1_shut 4 [va_rf r44] h k n (fun i54 h53 k57 n58 =>
K i54 h53) xN)) ∧
(i_1 = (4 : Int32) → gR h t_0 0 0 fun r59 =>
gI h r59 1 5 fun i64 =>
K i64 h) ∧
(i_1 = (5 : Int32) → gR h t_0 0 0 fun r70 =>
rv h r70 1 (dI G Y_X1_lying cX1_lying 4 [va_rf r70] h k n (fun i80 h79 k83 n84 =>
K i80 h79) xN)) ∧
(i_1 = (6 : Int32) → gR h t_0 0 0 fun r85 =>
rv h r85 1 (dI G Y_X1_inHand cX1_inHand 1 [va_rf r85] h k n (fun i95 h94 k98 n99 =>
K i95 h94) xN)) ∧
(i_1 = (7 : Int32) → gR h t_0 0 0 fun r100 =>
gI h r100 1 6 fun i105 =>
K i105 h) ∧
(i_1 = (8 : Int32) → gR h t_0 0 0 fun r111 =>
rv h r111 1 (dI G Y_X1_allOil cX1_allOil 4 [va_rf r111] h k n (fun i121 h120 k124 n125 =>
K i121 h120) xN)) ∧
(i_1 = (9 : Int32) → gR h t_0 0 0 fun r126 =>
gI h r126 1 7 fun i131 =>
K i131 h) ∧
(i_1 = (10 : Int32) → gR h t_0 0 5 fun r137 =>
rv h r137 13 (f_J5_length G h r137 (fun i147 h146 =>
K i147 h146))) ∧
(i_1 = (11 : Int32) → gR h t_0 0 2 fun r148 =>
rv h r148 12 (f_J3_size G h r148 (fun i158 h157 =>
K i158 h157))) ∧
(i_1.toInt < 0 ∨ 11 < i_1.toInt → K (-1012 : Int32) h))
theorem m_X0_account {G : Gt} {h : Hp} {mc ms : Nat} {a0 : Nat} {i_1 : Int32} {K : Int32 → Hp → Prop} (hG : Base G) (hA : 0 ≤ mc) (hB : 0 ≤ ms) (hf : f_X0_account G h (mc - 0) (ms - 0) (some a0) i_1 K) : MM G Y_X0_account cX0_account 2 mc ms [.ref a0, .int i_1] h (kI K) xN := by
  refine mm_of hG (by decide +kernel) rfl (ac_c rfl (ac_c rfl ac_nil)) (Nat.le_of_ble_eq_true rfl) (fun E _ _ => ?_)
  obtain ⟨k, hk9⟩ : ∃ z, z = mc - 0 := ⟨_, rfl⟩
  obtain ⟨n, hn9⟩ : ∃ z, z = ms - 0 := ⟨_, rfl⟩
  rw [← hk9, ← hn9] at hf
  refine V.weak (k' := k + 0) (n' := n + 0) ?_ (by omega) (by omega)
  show V G E Y_X0_account cX0_account 2 (QM G E (kI K) xN) h (k + 0) (n + 0) 0 [(0, .ref a0), (1, .int i_1)] []
  unfold f_X0_account at hf
  refine v_iload_n (i := 1) dX0_account_0 rfl rfl ?_
  have hx : i_1.toInt = 0 ∨ i_1.toInt = 1 ∨ i_1.toInt = 2 ∨ i_1.toInt = 3 ∨ i_1.toInt = 4 ∨ i_1.toInt = 5 ∨ i_1.toInt = 6 ∨ i_1.toInt = 7 ∨ i_1.toInt = 8 ∨ i_1.toInt = 9 ∨ i_1.toInt = 10 ∨ i_1.toInt = 11 ∨ (i_1.toInt < 0 ∨ 11 < i_1.toInt) := by omega
  rcases hx with hx | hx | hx | hx | hx | hx | hx | hx | hx | hx | hx | hx | hx
  · have e9 : i_1 = (0 : Int32) := Int32.toInt_inj.mp hx
    replace hf := hf.1 e9
    refine v_tableAt (v := (0 : Int32)) (off := 63) 64 dX0_account_1 e9 (by decide) (by decide) (by decide) (by decide) ?_
    refine v_qload_n (r := (some a0)) (i := 0) dX0_account_64 rfl rfl ?_
    replace hf := gR_e hf
    obtain ⟨w2, fs3, r1, hh4, hk5, hf⟩ := hf
    refine v_getf (T := TX0) (ci := 0) 0 dX0_account_65 q275 rfl in_X0 (Nat.le_of_ble_eq_true rfl) (Or.inl rfl) hh4 hk5 ?_
    obtain ⟨a6, rfl⟩ := rv_s hf
    replace hf := rv_e hf
    obtain ⟨w7, fs8, hh9, hf⟩ := hf
    refine V.addK0 ?_
    refine V.addN0 ?_
    refine v_callV (mc := 0) (ms := 0) 0 dX0_account_68 (m_X1_many hG hf) rfl hh9 rfl (lw_V q2389 q505 q506 q89 q507) rfl (by decide +kernel) (by decide) rfl (cat_len (Nat.le_of_ble_eq_true rfl)) (kk_I fun i11 h10 hg => ?_) (fun _ _ _ hx => hx.elim)
    replace hf := hg
    clear hg
    refine v_goto 190 dX0_account_71 (by decide) ?_
    exact v_iret dX0_account_190 rfl ⟨_, rfl, hf⟩
  · have e9 : i_1 = (1 : Int32) := Int32.toInt_inj.mp hx
    replace hf := hf.2.1 e9
    refine v_tableAt (v := (1 : Int32)) (off := 73) 74 dX0_account_1 e9 (by decide) (by decide) (by decide) (by decide) ?_
    refine v_qload_n (r := (some a0)) (i := 0) dX0_account_74 rfl rfl ?_
    replace hf := gR_e hf
    obtain ⟨w13, fs14, r12, hh15, hk16, hf⟩ := hf
    refine v_getf (T := TX0) (ci := 0) 0 dX0_account_75 q275 rfl in_X0 (Nat.le_of_ble_eq_true rfl) (Or.inl rfl) hh15 hk16 ?_
    obtain ⟨a18, rfl⟩ := gR_s hf
    replace hf := gR_e hf
    obtain ⟨w19, fs20, r17, hh21, hk22, hf⟩ := hf
    refine v_getfN (T := TX1) (ci := 1) 1 dX0_account_78 q191 rfl in_X1 (Nat.le_of_ble_eq_true rfl) (Or.inl rfl) hh21 hk22 ?_
    obtain ⟨a23, rfl⟩ := rv_s hf
    replace hf := rv_e hf
    obtain ⟨w24, fs25, hh26, hf⟩ := hf
    refine V.addK0 ?_
    refine V.addN0 ?_
    refine v_callV (mc := 0) (ms := 0) 0 dX0_account_81 (m_J2_size hG hf) rfl hh26 rfl (lw_V q2390 q509 q510 q92 q511) rfl (by decide +kernel) (by decide) rfl (cat_len (Nat.le_of_ble_eq_true rfl)) (kk_I fun i28 h27 hg => ?_) (fun _ _ _ hx => hx.elim)
    replace hf := hg
    clear hg
    refine v_goto 190 dX0_account_84 (by decide) ?_
    exact v_iret dX0_account_190 rfl ⟨_, rfl, hf⟩
  · have e9 : i_1 = (2 : Int32) := Int32.toInt_inj.mp hx
    replace hf := hf.2.2.1 e9
    refine v_tableAt (v := (2 : Int32)) (off := 86) 87 dX0_account_1 e9 (by decide) (by decide) (by decide) (by decide) ?_
    refine v_qload_n (r := (some a0)) (i := 0) dX0_account_87 rfl rfl ?_
    replace hf := gR_e hf
    obtain ⟨w30, fs31, r29, hh32, hk33, hf⟩ := hf
    refine v_getf (T := TX0) (ci := 0) 0 dX0_account_88 q275 rfl in_X0 (Nat.le_of_ble_eq_true rfl) (Or.inl rfl) hh32 hk33 ?_
    obtain ⟨a34, rfl⟩ := rv_s hf
    replace hf := rv_e hf
    obtain ⟨w35, fs36, hh37, hf⟩ := hf
    obtain ⟨mc40, ms41, hkmc40, hnms41, hM⟩ := hf
    refine V.weak (k' := ((k - mc40) + 0) + mc40) (n' := ((n - ms41) + 0) + ms41) ?_ (by omega) (by omega)
    refine v_callV 0 dX0_account_91 hM rfl hh37 rfl (lw_V q2391 q2392 q2393 q89 q2394) rfl (by decide +kernel) (by decide) rfl (cat_len (Nat.le_of_ble_eq_true rfl)) (kk_I fun i39 h38 hg => ?_) (fun _ _ _ hx => hx.elim)
    have hf := hg
    clear hg
    refine v_goto 190 dX0_account_94 (by decide) ?_
    exact v_iret dX0_account_190 rfl ⟨_, rfl, hf⟩
  · have e9 : i_1 = (3 : Int32) := Int32.toInt_inj.mp hx
    replace hf := hf.2.2.2.1 e9
    refine v_tableAt (v := (3 : Int32)) (off := 96) 97 dX0_account_1 e9 (by decide) (by decide) (by decide) (by decide) ?_
    refine v_qload_n (r := (some a0)) (i := 0) dX0_account_97 rfl rfl ?_
    replace hf := gR_e hf
    obtain ⟨w45, fs46, r44, hh47, hk48, hf⟩ := hf
    refine v_getf (T := TX0) (ci := 0) 0 dX0_account_98 q275 rfl in_X0 (Nat.le_of_ble_eq_true rfl) (Or.inl rfl) hh47 hk48 ?_
    obtain ⟨a49, rfl⟩ := rv_s hf
    replace hf := rv_e hf
    obtain ⟨w50, fs51, hh52, hf⟩ := hf
    obtain ⟨mc55, ms56, hkmc55, hnms56, hM⟩ := hf
    refine V.weak (k' := ((k - mc55) + 0) + mc55) (n' := ((n - ms56) + 0) + ms56) ?_ (by omega) (by omega)
    refine v_callV 0 dX0_account_101 hM rfl hh52 rfl (lw_V q2395 q2396 q2397 q89 q2398) rfl (by decide +kernel) (by decide) rfl (cat_len (Nat.le_of_ble_eq_true rfl)) (kk_I fun i54 h53 hg => ?_) (fun _ _ _ hx => hx.elim)
    have hf := hg
    clear hg
    refine v_goto 190 dX0_account_104 (by decide) ?_
    exact v_iret dX0_account_190 rfl ⟨_, rfl, hf⟩
  · have e9 : i_1 = (4 : Int32) := Int32.toInt_inj.mp hx
    replace hf := hf.2.2.2.2.1 e9
    refine v_tableAt (v := (4 : Int32)) (off := 106) 107 dX0_account_1 e9 (by decide) (by decide) (by decide) (by decide) ?_
    refine v_qload_n (r := (some a0)) (i := 0) dX0_account_107 rfl rfl ?_
    replace hf := gR_e hf
    obtain ⟨w60, fs61, r59, hh62, hk63, hf⟩ := hf
    refine v_getf (T := TX0) (ci := 0) 0 dX0_account_108 q275 rfl in_X0 (Nat.le_of_ble_eq_true rfl) (Or.inl rfl) hh62 hk63 ?_
    obtain ⟨a65, rfl⟩ := gI_s hf
    replace hf := gI_e hf
    obtain ⟨w66, fs67, i64, hh68, hk69, hf⟩ := hf
    refine v_getfN (T := TX1) (ci := 1) 5 dX0_account_111 q197 rfl in_X1 (Nat.le_of_ble_eq_true rfl) (Or.inl rfl) hh68 hk69 ?_
    refine v_goto 190 dX0_account_114 (by decide) ?_
    exact v_iret dX0_account_190 rfl ⟨_, rfl, hf⟩
  · have e9 : i_1 = (5 : Int32) := Int32.toInt_inj.mp hx
    replace hf := hf.2.2.2.2.2.1 e9
    refine v_tableAt (v := (5 : Int32)) (off := 116) 117 dX0_account_1 e9 (by decide) (by decide) (by decide) (by decide) ?_
    refine v_qload_n (r := (some a0)) (i := 0) dX0_account_117 rfl rfl ?_
    replace hf := gR_e hf
    obtain ⟨w71, fs72, r70, hh73, hk74, hf⟩ := hf
    refine v_getf (T := TX0) (ci := 0) 0 dX0_account_118 q275 rfl in_X0 (Nat.le_of_ble_eq_true rfl) (Or.inl rfl) hh73 hk74 ?_
    obtain ⟨a75, rfl⟩ := rv_s hf
    replace hf := rv_e hf
    obtain ⟨w76, fs77, hh78, hf⟩ := hf
    obtain ⟨mc81, ms82, hkmc81, hnms82, hM⟩ := hf
    refine V.weak (k' := ((k - mc81) + 0) + mc81) (n' := ((n - ms82) + 0) + ms82) ?_ (by omega) (by omega)
    refine v_callV 0 dX0_account_121 hM rfl hh78 rfl (lw_V q2399 q2400 q2401 q89 q2402) rfl (by decide +kernel) (by decide) rfl (cat_len (Nat.le_of_ble_eq_true rfl)) (kk_I fun i80 h79 hg => ?_) (fun _ _ _ hx => hx.elim)
    have hf := hg
    clear hg
    refine v_goto 190 dX0_account_124 (by decide) ?_
    exact v_iret dX0_account_190 rfl ⟨_, rfl, hf⟩
  · have e9 : i_1 = (6 : Int32) := Int32.toInt_inj.mp hx
    replace hf := hf.2.2.2.2.2.2.1 e9
    refine v_tableAt (v := (6 : Int32)) (off := 126) 127 dX0_account_1 e9 (by decide) (by decide) (by decide) (by decide) ?_
    refine v_qload_n (r := (some a0)) (i := 0) dX0_account_127 rfl rfl ?_
    replace hf := gR_e hf
    obtain ⟨w86, fs87, r85, hh88, hk89, hf⟩ := hf
    refine v_getf (T := TX0) (ci := 0) 0 dX0_account_128 q275 rfl in_X0 (Nat.le_of_ble_eq_true rfl) (Or.inl rfl) hh88 hk89 ?_
    obtain ⟨a90, rfl⟩ := rv_s hf
    replace hf := rv_e hf
    obtain ⟨w91, fs92, hh93, hf⟩ := hf
    obtain ⟨mc96, ms97, hkmc96, hnms97, hM⟩ := hf
    refine V.weak (k' := ((k - mc96) + 0) + mc96) (n' := ((n - ms97) + 0) + ms97) ?_ (by omega) (by omega)
    refine v_callV 0 dX0_account_131 hM rfl hh93 rfl (lw_V q2406 q2407 q2408 q89 q2409) rfl (by decide +kernel) (by decide) rfl (cat_len (Nat.le_of_ble_eq_true rfl)) (kk_I fun i95 h94 hg => ?_) (fun _ _ _ hx => hx.elim)
    have hf := hg
    clear hg
    refine v_goto 190 dX0_account_134 (by decide) ?_
    exact v_iret dX0_account_190 rfl ⟨_, rfl, hf⟩
  · have e9 : i_1 = (7 : Int32) := Int32.toInt_inj.mp hx
    replace hf := hf.2.2.2.2.2.2.2.1 e9
    refine v_tableAt (v := (7 : Int32)) (off := 136) 137 dX0_account_1 e9 (by decide) (by decide) (by decide) (by decide) ?_
    refine v_qload_n (r := (some a0)) (i := 0) dX0_account_137 rfl rfl ?_
    replace hf := gR_e hf
    obtain ⟨w101, fs102, r100, hh103, hk104, hf⟩ := hf
    refine v_getf (T := TX0) (ci := 0) 0 dX0_account_138 q275 rfl in_X0 (Nat.le_of_ble_eq_true rfl) (Or.inl rfl) hh103 hk104 ?_
    obtain ⟨a106, rfl⟩ := gI_s hf
    replace hf := gI_e hf
    obtain ⟨w107, fs108, i105, hh109, hk110, hf⟩ := hf
    refine v_getfN (T := TX1) (ci := 1) 6 dX0_account_141 q199 rfl in_X1 (Nat.le_of_ble_eq_true rfl) (Or.inl rfl) hh109 hk110 ?_
    refine v_goto 190 dX0_account_144 (by decide) ?_
    exact v_iret dX0_account_190 rfl ⟨_, rfl, hf⟩
  · have e9 : i_1 = (8 : Int32) := Int32.toInt_inj.mp hx
    replace hf := hf.2.2.2.2.2.2.2.2.1 e9
    refine v_tableAt (v := (8 : Int32)) (off := 146) 147 dX0_account_1 e9 (by decide) (by decide) (by decide) (by decide) ?_
    refine v_qload_n (r := (some a0)) (i := 0) dX0_account_147 rfl rfl ?_
    replace hf := gR_e hf
    obtain ⟨w112, fs113, r111, hh114, hk115, hf⟩ := hf
    refine v_getf (T := TX0) (ci := 0) 0 dX0_account_148 q275 rfl in_X0 (Nat.le_of_ble_eq_true rfl) (Or.inl rfl) hh114 hk115 ?_
    obtain ⟨a116, rfl⟩ := rv_s hf
    replace hf := rv_e hf
    obtain ⟨w117, fs118, hh119, hf⟩ := hf
    obtain ⟨mc122, ms123, hkmc122, hnms123, hM⟩ := hf
    refine V.weak (k' := ((k - mc122) + 0) + mc122) (n' := ((n - ms123) + 0) + ms123) ?_ (by omega) (by omega)
    refine v_callV 0 dX0_account_151 hM rfl hh119 rfl (lw_V q2410 q2411 q2412 q89 q2413) rfl (by decide +kernel) (by decide) rfl (cat_len (Nat.le_of_ble_eq_true rfl)) (kk_I fun i121 h120 hg => ?_) (fun _ _ _ hx => hx.elim)
    have hf := hg
    clear hg
    refine v_goto 190 dX0_account_154 (by decide) ?_
    exact v_iret dX0_account_190 rfl ⟨_, rfl, hf⟩
  · have e9 : i_1 = (9 : Int32) := Int32.toInt_inj.mp hx
    replace hf := hf.2.2.2.2.2.2.2.2.2.1 e9
    refine v_tableAt (v := (9 : Int32)) (off := 156) 157 dX0_account_1 e9 (by decide) (by decide) (by decide) (by decide) ?_
    refine v_qload_n (r := (some a0)) (i := 0) dX0_account_157 rfl rfl ?_
    replace hf := gR_e hf
    obtain ⟨w127, fs128, r126, hh129, hk130, hf⟩ := hf
    refine v_getf (T := TX0) (ci := 0) 0 dX0_account_158 q275 rfl in_X0 (Nat.le_of_ble_eq_true rfl) (Or.inl rfl) hh129 hk130 ?_
    obtain ⟨a132, rfl⟩ := gI_s hf
    replace hf := gI_e hf
    obtain ⟨w133, fs134, i131, hh135, hk136, hf⟩ := hf
    refine v_getfN (T := TX1) (ci := 1) 7 dX0_account_161 q201 rfl in_X1 (Nat.le_of_ble_eq_true rfl) (Or.inl rfl) hh135 hk136 ?_
    refine v_goto 190 dX0_account_164 (by decide) ?_
    exact v_iret dX0_account_190 rfl ⟨_, rfl, hf⟩
  · have e9 : i_1 = (10 : Int32) := Int32.toInt_inj.mp hx
    replace hf := hf.2.2.2.2.2.2.2.2.2.2.1 e9
    refine v_tableAt (v := (10 : Int32)) (off := 166) 167 dX0_account_1 e9 (by decide) (by decide) (by decide) (by decide) ?_
    refine v_qload_n (r := (some a0)) (i := 0) dX0_account_167 rfl rfl ?_
    replace hf := gR_e hf
    obtain ⟨w138, fs139, r137, hh140, hk141, hf⟩ := hf
    refine v_getf (T := TX0) (ci := 0) 5 dX0_account_168 q281 rfl in_X0 (Nat.le_of_ble_eq_true rfl) (Or.inl rfl) hh140 hk141 ?_
    obtain ⟨a142, rfl⟩ := rv_s hf
    replace hf := rv_e hf
    obtain ⟨w143, fs144, hh145, hf⟩ := hf
    refine V.addK0 ?_
    refine V.addN0 ?_
    refine v_callV (mc := 0) (ms := 0) 0 dX0_account_171 (m_J5_length hG hf) rfl hh145 rfl (lw_V q1971 q1972 q1973 q95 q1974) rfl (by decide +kernel) (by decide) rfl (cat_len (Nat.le_of_ble_eq_true rfl)) (kk_I fun i147 h146 hg => ?_) (fun _ _ _ hx => hx.elim)
    replace hf := hg
    clear hg
    refine v_goto 190 dX0_account_174 (by decide) ?_
    exact v_iret dX0_account_190 rfl ⟨_, rfl, hf⟩
  · have e9 : i_1 = (11 : Int32) := Int32.toInt_inj.mp hx
    replace hf := hf.2.2.2.2.2.2.2.2.2.2.2.1 e9
    refine v_tableAt (v := (11 : Int32)) (off := 176) 177 dX0_account_1 e9 (by decide) (by decide) (by decide) (by decide) ?_
    refine v_qload_n (r := (some a0)) (i := 0) dX0_account_177 rfl rfl ?_
    replace hf := gR_e hf
    obtain ⟨w149, fs150, r148, hh151, hk152, hf⟩ := hf
    refine v_getf (T := TX0) (ci := 0) 2 dX0_account_178 q277 rfl in_X0 (Nat.le_of_ble_eq_true rfl) (Or.inl rfl) hh151 hk152 ?_
    obtain ⟨a153, rfl⟩ := rv_s hf
    replace hf := rv_e hf
    obtain ⟨w154, fs155, hh156, hf⟩ := hf
    refine V.addK0 ?_
    refine V.addN0 ?_
    refine v_callV (mc := 0) (ms := 0) 0 dX0_account_181 (m_J3_size hG hf) rfl hh156 rfl (lw_V q608 q609 q610 q93 q611) rfl (by decide +kernel) (by decide) rfl (cat_len (Nat.le_of_ble_eq_true rfl)) (kk_I fun i158 h157 hg => ?_) (fun _ _ _ hx => hx.elim)
    replace hf := hg
    clear hg
    refine v_goto 190 dX0_account_184 (by decide) ?_
    exact v_iret dX0_account_190 rfl ⟨_, rfl, hf⟩
  · replace hf := hf.2.2.2.2.2.2.2.2.2.2.2.2 hx
    refine v_tableOut 187 dX0_account_1 hx (by decide) ?_
    refine v_sipush (v := -1012) dX0_account_187 (by decide) ?_
    exact v_iret dX0_account_190 rfl ⟨_, rfl, hf⟩
abbrev Y_X0_isBalanced : Yt := (yX0_isBalanced, some (.int), 9, 244, [])
def f_X0_isBalanced (G : Gt) (h : Hp) (k n : Nat) (t_0 : Option Nat) (K : Int32 → Hp → Prop) : Prop :=
gR h t_0 0 0 fun r1 =>
rv h r1 1 (dI G Y_X1_isBalanced cX1_isBalanced 3 [va_rf r1] h k n (fun i11 h10 k14 n15 =>
((i11 = 0 → K (0 : Int32) h10) ∧
(¬ (i11 = 0) → K (1 : Int32) h10))) xN)
theorem m_X0_isBalanced {G : Gt} {h : Hp} {mc ms : Nat} {a0 : Nat} {K : Int32 → Hp → Prop} (hG : Base G) (hA : 0 ≤ mc) (hB : 0 ≤ ms) (hf : f_X0_isBalanced G h (mc - 0) (ms - 0) (some a0) K) : MM G Y_X0_isBalanced cX0_isBalanced 1 mc ms [.ref a0] h (kI K) xN := by
  refine mm_of hG (by decide +kernel) rfl (ac_c rfl ac_nil) (Nat.le_of_ble_eq_true rfl) (fun E _ _ => ?_)
  obtain ⟨k, hk9⟩ : ∃ z, z = mc - 0 := ⟨_, rfl⟩
  obtain ⟨n, hn9⟩ : ∃ z, z = ms - 0 := ⟨_, rfl⟩
  rw [← hk9, ← hn9] at hf
  refine V.weak (k' := k + 0) (n' := n + 0) ?_ (by omega) (by omega)
  show V G E Y_X0_isBalanced cX0_isBalanced 1 (QM G E (kI K) xN) h (k + 0) (n + 0) 0 [(0, .ref a0)] []
  unfold f_X0_isBalanced at hf
  refine v_qload_n (r := (some a0)) (i := 0) dX0_isBalanced_0 rfl rfl ?_
  replace hf := gR_e hf
  obtain ⟨w2, fs3, r1, hh4, hk5, hf⟩ := hf
  refine v_getf (T := TX0) (ci := 0) 0 dX0_isBalanced_1 q275 rfl in_X0 (Nat.le_of_ble_eq_true rfl) (Or.inl rfl) hh4 hk5 ?_
  obtain ⟨a6, rfl⟩ := rv_s hf
  replace hf := rv_e hf
  obtain ⟨w7, fs8, hh9, hf⟩ := hf
  obtain ⟨mc12, ms13, hkmc12, hnms13, hM⟩ := hf
  refine V.weak (k' := ((k - mc12) + 0) + mc12) (n' := ((n - ms13) + 0) + ms13) ?_ (by omega) (by omega)
  refine v_callV 0 dX0_isBalanced_4 hM rfl hh9 rfl (lw_V q2418 q2419 q2420 q89 q2421) rfl (by decide +kernel) (by decide) rfl (cat_len (Nat.le_of_ble_eq_true rfl)) (kk_I fun i11 h10 hg => ?_) (fun _ _ _ hx => hx.elim)
  have hf := hg
  clear hg
  refine v_if_eq 14 dX0_isBalanced_7 (by decide) (fun c16 => ?_) (fun c16 => ?_)
  · replace hf := hf.1 c16
    refine v_iconst (v := 0) dX0_isBalanced_14 (by decide) ?_
    exact v_iret dX0_isBalanced_15 rfl ⟨_, rfl, hf⟩
  · replace hf := hf.2 c16
    refine v_iconst (v := 1) dX0_isBalanced_10 (by decide) ?_
    refine v_goto 15 dX0_isBalanced_11 (by decide) ?_
    exact v_iret dX0_isBalanced_15 rfl ⟨_, rfl, hf⟩
abbrev Y_X0_meanOil : Yt := (yX0_meanOil, some (.double), 4, 105, [])
def f_X0_meanOil (G : Gt) (h : Hp) (k n : Nat) (t_0 : Option Nat) (K : UInt64 → Hp → Prop) : Prop :=
gR h t_0 0 0 fun r1 =>
rv h r1 1 (f_X1_many G h r1 (fun i11 h10 =>
((¬ (i11 = 0) → gR h10 t_0 0 0 fun r13 =>
rv h10 r13 1 (dI G Y_X1_allOil cX1_allOil 4 [va_rf r13] h10 k n (fun i23 h22 k26 n27 =>
(vf_n64 (FP.ddiv (FP.i2d i23) (FP.i2d i11)) ∧ K (FP.ddiv (FP.i2d i23) (FP.i2d i11)) h22)) xN)) ∧
(i11 = 0 → K FP.dconst0 h10))))
theorem m_X0_meanOil {G : Gt} {h : Hp} {mc ms : Nat} {a0 : Nat} {K : UInt64 → Hp → Prop} (hG : Base G) (hA : 0 ≤ mc) (hB : 0 ≤ ms) (hf : f_X0_meanOil G h (mc - 0) (ms - 0) (some a0) K) : MM G Y_X0_meanOil cX0_meanOil 2 mc ms [.ref a0] h (kD K) xN := by
  refine mm_of hG (by decide +kernel) rfl (ac_c rfl ac_nil) (Nat.le_of_ble_eq_true rfl) (fun E _ _ => ?_)
  obtain ⟨k, hk9⟩ : ∃ z, z = mc - 0 := ⟨_, rfl⟩
  obtain ⟨n, hn9⟩ : ∃ z, z = ms - 0 := ⟨_, rfl⟩
  rw [← hk9, ← hn9] at hf
  refine V.weak (k' := k + 0) (n' := n + 0) ?_ (by omega) (by omega)
  show V G E Y_X0_meanOil cX0_meanOil 2 (QM G E (kD K) xN) h (k + 0) (n + 0) 0 [(0, .ref a0)] []
  unfold f_X0_meanOil at hf
  refine v_qload_n (r := (some a0)) (i := 0) dX0_meanOil_0 rfl rfl ?_
  replace hf := gR_e hf
  obtain ⟨w2, fs3, r1, hh4, hk5, hf⟩ := hf
  refine v_getf (T := TX0) (ci := 0) 0 dX0_meanOil_1 q275 rfl in_X0 (Nat.le_of_ble_eq_true rfl) (Or.inl rfl) hh4 hk5 ?_
  obtain ⟨a6, rfl⟩ := rv_s hf
  replace hf := rv_e hf
  obtain ⟨w7, fs8, hh9, hf⟩ := hf
  refine V.addK0 ?_
  refine V.addN0 ?_
  refine v_callV (mc := 0) (ms := 0) 0 dX0_meanOil_4 (m_X1_many hG hf) rfl hh9 rfl (lw_V q2389 q505 q506 q89 q507) rfl (by decide +kernel) (by decide) rfl (cat_len (Nat.le_of_ble_eq_true rfl)) (kk_I fun i11 h10 hg => ?_) (fun _ _ _ hx => hx.elim)
  replace hf := hg
  clear hg
  refine v_istore_n (i := 1) (lv' := [(0, va_rf (some a0)), (1, .int i11)]) dX0_meanOil_7 rfl (Nat.le_of_ble_eq_true rfl) rfl rfl ?_
  refine v_iload_n (i := 1) dX0_meanOil_8 rfl rfl ?_
  refine v_if_ne 16 dX0_meanOil_9 (by decide) (fun c12 => ?_) (fun c12 => ?_)
  · replace hf := hf.1 c12
    refine v_qload_n (r := (some a0)) (i := 0) dX0_meanOil_16 rfl rfl ?_
    replace hf := gR_e hf
    obtain ⟨w14, fs15, r13, hh16, hk17, hf⟩ := hf
    refine v_getf (T := TX0) (ci := 0) 0 dX0_meanOil_17 q275 rfl in_X0 (Nat.le_of_ble_eq_true rfl) (Or.inl rfl) hh16 hk17 ?_
    obtain ⟨a18, rfl⟩ := rv_s hf
    replace hf := rv_e hf
    obtain ⟨w19, fs20, hh21, hf⟩ := hf
    obtain ⟨mc24, ms25, hkmc24, hnms25, hM⟩ := hf
    refine V.weak (k' := ((k - mc24) + 0) + mc24) (n' := ((n - ms25) + 0) + ms25) ?_ (by omega) (by omega)
    refine v_callV 0 dX0_meanOil_20 hM rfl hh21 rfl (lw_V q2410 q2411 q2412 q89 q2413) rfl (by decide +kernel) (by decide) rfl (cat_len (Nat.le_of_ble_eq_true rfl)) (kk_I fun i23 h22 hg => ?_) (fun _ _ _ hx => hx.elim)
    have hf := hg
    clear hg
    refine v_i2d dX0_meanOil_23 ?_
    refine v_iload_n (i := 1) dX0_meanOil_24 rfl rfl ?_
    refine v_i2d dX0_meanOil_25 ?_
    obtain ⟨hz, hf⟩ := hf
    refine v_ddiv dX0_meanOil_26 hz ?_
    exact v_dret dX0_meanOil_27 rfl ⟨_, rfl, hf⟩
  · replace hf := hf.2 c12
    refine v_dconst0 dX0_meanOil_12 ?_
    refine v_goto 27 dX0_meanOil_13 (by decide) ?_
    exact v_dret dX0_meanOil_27 rfl ⟨_, rfl, hf⟩
abbrev Y_X0_doubledShare : Yt := (yX0_doubledShare, some (.float), 8, 214, [])
def f_X0_doubledShare (G : Gt) (h : Hp) (k n : Nat) (t_0 : Option Nat) (K : UInt32 → Hp → Prop) : Prop :=
gR h t_0 0 0 fun r1 =>
rv h r1 1 (f_X1_many G h r1 (fun i11 h10 =>
((¬ (i11 = 0) → gR h10 t_0 0 0 fun r13 =>
rv h10 r13 1 (dR G Y_X1_doubled cX1_doubled 7 [va_rf r13] h10 k n (fun r23 h22 k26 n27 =>
rv h22 r23 15 (dI G Y_J16_cardinality cJ16_cardinality 3 [va_rf r23] h22 k26 n27 (fun i33 h32 k36 n37 =>
(vf_n32 (FP.fdiv (FP.i2f i33) (FP.i2f i11)) ∧ K (FP.fdiv (FP.i2f i33) (FP.i2f i11)) h32)) xN)) xN)) ∧
(i11 = 0 → K FP.fconst0 h10))))
theorem m_X0_doubledShare {G : Gt} {h : Hp} {mc ms : Nat} {a0 : Nat} {K : UInt32 → Hp → Prop} (hG : Base G) (hA : 0 ≤ mc) (hB : 0 ≤ ms) (hf : f_X0_doubledShare G h (mc - 0) (ms - 0) (some a0) K) : MM G Y_X0_doubledShare cX0_doubledShare 2 mc ms [.ref a0] h (kF K) xN := by
  refine mm_of hG (by decide +kernel) rfl (ac_c rfl ac_nil) (Nat.le_of_ble_eq_true rfl) (fun E _ _ => ?_)
  obtain ⟨k, hk9⟩ : ∃ z, z = mc - 0 := ⟨_, rfl⟩
  obtain ⟨n, hn9⟩ : ∃ z, z = ms - 0 := ⟨_, rfl⟩
  rw [← hk9, ← hn9] at hf
  refine V.weak (k' := k + 0) (n' := n + 0) ?_ (by omega) (by omega)
  show V G E Y_X0_doubledShare cX0_doubledShare 2 (QM G E (kF K) xN) h (k + 0) (n + 0) 0 [(0, .ref a0)] []
  unfold f_X0_doubledShare at hf
  refine v_qload_n (r := (some a0)) (i := 0) dX0_doubledShare_0 rfl rfl ?_
  replace hf := gR_e hf
  obtain ⟨w2, fs3, r1, hh4, hk5, hf⟩ := hf
  refine v_getf (T := TX0) (ci := 0) 0 dX0_doubledShare_1 q275 rfl in_X0 (Nat.le_of_ble_eq_true rfl) (Or.inl rfl) hh4 hk5 ?_
  obtain ⟨a6, rfl⟩ := rv_s hf
  replace hf := rv_e hf
  obtain ⟨w7, fs8, hh9, hf⟩ := hf
  refine V.addK0 ?_
  refine V.addN0 ?_
  refine v_callV (mc := 0) (ms := 0) 0 dX0_doubledShare_4 (m_X1_many hG hf) rfl hh9 rfl (lw_V q2389 q505 q506 q89 q507) rfl (by decide +kernel) (by decide) rfl (cat_len (Nat.le_of_ble_eq_true rfl)) (kk_I fun i11 h10 hg => ?_) (fun _ _ _ hx => hx.elim)
  replace hf := hg
  clear hg
  refine v_istore_n (i := 1) (lv' := [(0, va_rf (some a0)), (1, .int i11)]) dX0_doubledShare_7 rfl (Nat.le_of_ble_eq_true rfl) rfl rfl ?_
  refine v_iload_n (i := 1) dX0_doubledShare_8 rfl rfl ?_
  refine v_if_ne 16 dX0_doubledShare_9 (by decide) (fun c12 => ?_) (fun c12 => ?_)
  · replace hf := hf.1 c12
    refine v_qload_n (r := (some a0)) (i := 0) dX0_doubledShare_16 rfl rfl ?_
    replace hf := gR_e hf
    obtain ⟨w14, fs15, r13, hh16, hk17, hf⟩ := hf
    refine v_getf (T := TX0) (ci := 0) 0 dX0_doubledShare_17 q275 rfl in_X0 (Nat.le_of_ble_eq_true rfl) (Or.inl rfl) hh16 hk17 ?_
    obtain ⟨a18, rfl⟩ := rv_s hf
    replace hf := rv_e hf
    obtain ⟨w19, fs20, hh21, hf⟩ := hf
    obtain ⟨mc24, ms25, hkmc24, hnms25, hM⟩ := hf
    refine V.weak (k' := ((k - mc24) + 0) + mc24) (n' := ((n - ms25) + 0) + ms25) ?_ (by omega) (by omega)
    refine v_callV 0 dX0_doubledShare_20 hM rfl hh21 rfl (lw_V q2437 q746 q747 q89 q748) rfl (by decide +kernel) (by decide) rfl (cat_len (Nat.le_of_ble_eq_true rfl)) (kk_R fun r23 h22 hg => ?_) (fun _ _ _ hx => hx.elim)
    have hf := hg
    clear hg
    obtain ⟨a28, rfl⟩ := rv_s hf
    replace hf := rv_e hf
    obtain ⟨w29, fs30, hh31, hf⟩ := hf
    obtain ⟨mc34, ms35, hkmc34, hnms35, hM⟩ := hf
    refine V.weak (k' := (((k - mc24) - mc34) + 0) + mc34) (n' := (((n - ms25) - ms35) + 0) + ms35) ?_ (by omega) (by omega)
    refine v_callV 0 dX0_doubledShare_23 hM rfl hh31 rfl (lw_V q2438 q2439 q2440 q111 q2441) rfl (by decide +kernel) (by decide) rfl (cat_len (Nat.le_of_ble_eq_true rfl)) (kk_I fun i33 h32 hg => ?_) (fun _ _ _ hx => hx.elim)
    have hf := hg
    clear hg
    refine v_i2f dX0_doubledShare_26 ?_
    refine v_iload_n (i := 1) dX0_doubledShare_27 rfl rfl ?_
    refine v_i2f dX0_doubledShare_28 ?_
    obtain ⟨hz, hf⟩ := hf
    refine v_fdiv dX0_doubledShare_29 hz ?_
    exact v_fret dX0_doubledShare_30 rfl ⟨_, rfl, hf⟩
  · replace hf := hf.2 c12
    refine v_fconst0 dX0_doubledShare_12 ?_
    refine v_goto 30 dX0_doubledShare_13 (by decide) ?_
    exact v_fret dX0_doubledShare_30 rfl ⟨_, rfl, hf⟩
abbrev Y_J3_isEmpty : Yt := (yJ3_isEmpty, some (.boolean), 1, 40, [])
def f_J3_isEmpty (G : Gt) (h : Hp) (t_0 : Option Nat) (K : Int32 → Hp → Prop) : Prop :=
gI h t_0 12 1 fun i1 =>
gI h t_0 12 2 fun i6 =>
((¬ (i1 = i6) → K (0 : Int32) h) ∧
(i1 = i6 → K (1 : Int32) h))
theorem m_J3_isEmpty {G : Gt} {h : Hp} {a0 : Nat} {K : Int32 → Hp → Prop} (hG : Base G) (hf : f_J3_isEmpty G h (some a0) K) : MM G Y_J3_isEmpty cJ3_isEmpty 1 0 0 [.ref a0] h (kI K) xN := by
  refine mm_of hG (by decide +kernel) rfl (ac_c rfl ac_nil) (Nat.le_of_ble_eq_true rfl) (fun E _ _ => ?_)
  show V G E Y_J3_isEmpty cJ3_isEmpty 1 (QM G E (kI K) xN) h 0 0 0 [(0, .ref a0)] []
  unfold f_J3_isEmpty at hf
  refine v_qload_n (r := (some a0)) (i := 0) dJ3_isEmpty_0 rfl rfl ?_
  replace hf := gI_e hf
  obtain ⟨w2, fs3, i1, hh4, hk5, hf⟩ := hf
  refine v_getf (T := TJ3) (ci := 12) 1 dJ3_isEmpty_1 q232 rfl in_J3 (Nat.le_of_ble_eq_true rfl) (Or.inl rfl) hh4 hk5 ?_
  refine v_qload_n (r := (some a0)) (i := 0) dJ3_isEmpty_4 rfl rfl ?_
  replace hf := gI_e hf
  obtain ⟨w7, fs8, i6, hh9, hk10, hf⟩ := hf
  refine v_getf (T := TJ3) (ci := 12) 2 dJ3_isEmpty_5 q233 rfl in_J3 (Nat.le_of_ble_eq_true rfl) (Or.inl rfl) hh9 hk10 ?_
  refine v_icmp_ne 15 dJ3_isEmpty_8 (by decide) (fun c11 => ?_) (fun c11 => ?_)
  · replace hf := hf.1 c11
    refine v_iconst (v := 0) dJ3_isEmpty_15 (by decide) ?_
    exact v_zret dJ3_isEmpty_16 rfl (by decide) ⟨_, rfl, hf⟩
  · replace hf := hf.2 c11
    refine v_iconst (v := 1) dJ3_isEmpty_11 (by decide) ?_
    refine v_goto 16 dJ3_isEmpty_12 (by decide) ?_
    exact v_zret dJ3_isEmpty_16 rfl (by decide) ⟨_, rfl, hf⟩
abbrev Y_J3_dec : Yt := (yJ3_dec, some (.int), 1, 40, [])
def f_J3_dec (G : Gt) (h : Hp) (i_0 : Int32) (i_1 : Int32) (K : Int32 → Hp → Prop) : Prop :=
((0 ≤ i_0 + (-1 : Int32) → K (i_0 + (-1 : Int32)) h) ∧
(¬ (0 ≤ i_0 + (-1 : Int32)) → K (i_1 - (1 : Int32)) h))
theorem m_J3_dec {G : Gt} {h : Hp} {i_0 : Int32} {i_1 : Int32} {K : Int32 → Hp → Prop} (hG : Base G) (hf : f_J3_dec G h i_0 i_1 K) : MM G Y_J3_dec cJ3_dec 2 0 0 [.int i_0, .int i_1] h (kI K) xN := by
  refine mm_of hG (by decide +kernel) rfl (ac_c rfl (ac_c rfl ac_nil)) (Nat.le_of_ble_eq_true rfl) (fun E _ _ => ?_)
  show V G E Y_J3_dec cJ3_dec 2 (QM G E (kI K) xN) h 0 0 0 [(0, .int i_0), (1, .int i_1)] []
  unfold f_J3_dec at hf
  refine v_iinc (i := 0) (v := i_0 + (-1 : Int32)) (lv' := [(0, .int (i_0 + (-1 : Int32))), (1, .int i_1)]) dJ3_dec_0 rfl rfl (Nat.le_of_ble_eq_true rfl) rfl rfl ?_
  refine v_iload_n (i := 0) dJ3_dec_3 rfl rfl ?_
  refine v_if_ge 11 dJ3_dec_4 (by decide) (fun c1 => ?_) (fun c1 => ?_)
  · replace hf := hf.1 c1
    refine v_iload_n (i := 0) dJ3_dec_11 rfl rfl ?_
    exact v_iret dJ3_dec_12 rfl ⟨_, rfl, hf⟩
  · replace hf := hf.2 c1
    refine v_iload_n (i := 1) dJ3_dec_7 rfl rfl ?_
    refine v_iconst (v := 1) dJ3_dec_8 (by decide) ?_
    refine v_isub dJ3_dec_9 ?_
    refine v_istore_n (i := 0) (lv' := [(0, .int (i_1 - (1 : Int32))), (1, .int i_1)]) dJ3_dec_10 rfl (Nat.le_of_ble_eq_true rfl) rfl rfl ?_
    refine v_iload_n (i := 0) dJ3_dec_11 rfl rfl ?_
    exact v_iret dJ3_dec_12 rfl ⟨_, rfl, hf⟩
abbrev Y_J3_pollLast : Yt := (yJ3_pollLast, some (.object "java/lang/Object"), 2, 61, [])
def f_J3_pollLast (G : Gt) (h : Hp) (t_0 : Option Nat) (K : Option Nat → Hp → Prop) : Prop :=
gR h t_0 12 0 fun r1 =>
gI h t_0 12 2 fun i6 =>
aL h r1 fun i16 =>
f_J3_dec G h i6 i16 (fun i18 h17 =>
f_J3_elementAt G h17 r1 i18 (fun r20 h19 =>
((r20 = none → K r20 h19) ∧
(∀ y21, r20 = some y21 → pF h19 t_0 12 2 (.int i18) fun h25 =>
sQ h25 r1 i18 none fun h33 =>
K r20 h33))))
theorem m_J3_pollLast {G : Gt} {h : Hp} {a0 : Nat} {K : Option Nat → Hp → Prop} (hG : Base G) (hf : f_J3_pollLast G h (some a0) K) : MM G Y_J3_pollLast cJ3_pollLast 4 0 0 [.ref a0] h (kR K) xN := by
  refine mm_of hG (by decide +kernel) rfl (ac_c rfl ac_nil) (Nat.le_of_ble_eq_true rfl) (fun E _ _ => ?_)
  show V G E Y_J3_pollLast cJ3_pollLast 4 (QM G E (kR K) xN) h 0 0 0 [(0, .ref a0)] []
  unfold f_J3_pollLast at hf
  refine v_qload_n (r := (some a0)) (i := 0) dJ3_pollLast_0 rfl rfl ?_
  replace hf := gR_e hf
  obtain ⟨w2, fs3, r1, hh4, hk5, hf⟩ := hf
  refine v_getf (T := TJ3) (ci := 12) 0 dJ3_pollLast_1 q231 rfl in_J3 (Nat.le_of_ble_eq_true rfl) (Or.inl rfl) hh4 hk5 ?_
  refine v_dup dJ3_pollLast_4 (rf_cat _) ?_
  refine v_qstore_n (i := 1) (r := r1) (lv' := [(0, va_rf (some a0)), (1, va_rf r1)]) dJ3_pollLast_5 rfl (Nat.le_of_ble_eq_true rfl) rfl rfl ?_
  refine v_qload_n (r := (some a0)) (i := 0) dJ3_pollLast_6 rfl rfl ?_
  replace hf := gI_e hf
  obtain ⟨w7, fs8, i6, hh9, hk10, hf⟩ := hf
  refine v_getf (T := TJ3) (ci := 12) 2 dJ3_pollLast_7 q233 rfl in_J3 (Nat.le_of_ble_eq_true rfl) (Or.inl rfl) hh9 hk10 ?_
  refine v_qload_n (r := r1) (i := 1) dJ3_pollLast_10 rfl rfl ?_
  obtain ⟨a11, rfl⟩ := aL_s hf
  replace hf := aL_e hf
  obtain ⟨w12, t13, x14, hh15, i16, ei16, hf⟩ := hf
  refine v_alen dJ3_pollLast_11 hh15 ei16.symm ?_
  refine V.addK0 ?_
  refine V.addN0 ?_
  refine v_callS (mc := 0) (ms := 0) 2 dJ3_pollLast_12 (m_J3_dec hG hf) rfl (lw_S q2464 q2465 q93 q2466) rfl (by decide +kernel) (by decide) rfl (cat_len (Nat.le_of_ble_eq_true rfl)) (kk_I fun i18 h17 hg => ?_) (fun _ _ _ hx => hx.elim)
  replace hf := hg
  clear hg
  refine v_dup dJ3_pollLast_15 rfl ?_
  refine v_istore_n (i := 2) (lv' := [(0, va_rf (some a0)), (1, va_rf (some a11)), (2, .int i18)]) dJ3_pollLast_16 rfl (Nat.le_of_ble_eq_true rfl) rfl rfl ?_
  refine V.addK0 ?_
  refine V.addN0 ?_
  refine v_callS (mc := 0) (ms := 0) 2 dJ3_pollLast_17 (m_J3_elementAt hG hf) rfl (lw_S q623 q624 q93 q625) rfl (by decide +kernel) (by decide) rfl (cat_len (Nat.le_of_ble_eq_true rfl)) (kk_R fun r20 h19 hg => ?_) (fun _ _ _ hx => hx.elim)
  replace hf := hg
  clear hg
  refine v_qstore_n (i := 3) (r := r20) (lv' := [(0, va_rf (some a0)), (1, va_rf (some a11)), (2, .int i18), (3, va_rf r20)]) dJ3_pollLast_20 rfl (Nat.le_of_ble_eq_true rfl) rfl rfl ?_
  refine v_qload_n (r := r20) (i := 3) dJ3_pollLast_21 rfl rfl ?_
  refine v_ifnull 34 dJ3_pollLast_22 (by decide) (fun e22 => ?_) (fun y21 e22 => ?_)
  · replace hf := hf.1 e22
    subst e22
    refine v_qload_n (r := none) (i := 3) dJ3_pollLast_34 rfl rfl ?_
    exact v_qret (r := none) dJ3_pollLast_35 rfl (Or.inl ⟨_, rfl⟩) ⟨_, rfl, hf⟩
  · replace hf := hf.2 y21 e22
    subst e22
    refine v_qload_n (r := (some a11)) (i := 1) dJ3_pollLast_25 rfl rfl ?_
    refine v_qload_n (r := (some a0)) (i := 0) dJ3_pollLast_26 rfl rfl ?_
    refine v_iload_n (i := 2) dJ3_pollLast_27 rfl rfl ?_
    refine v_dup_x1 dJ3_pollLast_28 rfl (rf_cat _) ?_
    replace hf := pF_e hf
    obtain ⟨fs23, hh24, hf⟩ := hf
    refine v_putf (v := .int i18) (T := TJ3) (ci := 12) (ty := .int) 2 dJ3_pollLast_29 q233 rfl in_J3 tyJ3 tyJ3_ok nmJ3 (Nat.le_of_ble_eq_true rfl) (Or.inl rfl) rfl (by decide +kernel) rfl rfl hh24 ?_
    obtain ⟨h25, eh25⟩ : ∃ z, z = hs h19 a0 (true, .inr (12, fs23.set 2 (.int i18))) := ⟨_, rfl⟩
    try rw [← eh25] at hf
    rw [← eh25]
    refine v_null dJ3_pollLast_32 ?_
    replace hf := sQ_e hf
    obtain ⟨t26, N27, f28, hh29, hD31, hi30, hy32, hf⟩ := hf
    refine v_sQ (y := none) dJ3_pollLast_33 hD31 hh29 hi30 hy32 ?_
    obtain ⟨h33, eh33⟩ : ∃ z, z = hs h25 a11 (true, .inl (t26, N27, .inr (.inr (.inr (.inr (va_up f28 (i18).toNatClampNeg none)))))) := ⟨_, rfl⟩
    try rw [← eh33] at hf
    rw [← eh33]
    refine v_qload_n (r := (some y21)) (i := 3) dJ3_pollLast_34 rfl rfl ?_
    exact v_qret (r := (some y21)) dJ3_pollLast_35 rfl (Or.inl ⟨_, rfl⟩) ⟨_, rfl, hf⟩
abbrev Y_J3_removeLast : Yt := (yJ3_removeLast, some (.object "java/lang/Object"), 3, 84, [])
def f_J3_removeLast (G : Gt) (h : Hp) (t_0 : Option Nat) (K : Option Nat → Hp → Prop) : Prop :=
rv h t_0 12 (f_J3_pollLast G h t_0 (fun r5 h4 =>
((r5 = none → False) ∧
(∀ y6, r5 = some y6 → K r5 h4))))
theorem m_J3_removeLast {G : Gt} {h : Hp} {a0 : Nat} {K : Option Nat → Hp → Prop} (hG : Base G) (hf : f_J3_removeLast G h (some a0) K) : MM G Y_J3_removeLast cJ3_removeLast 2 0 0 [.ref a0] h (kR K) xN := by
  refine mm_of hG (by decide +kernel) rfl (ac_c rfl ac_nil) (Nat.le_of_ble_eq_true rfl) (fun E _ _ => ?_)
  show V G E Y_J3_removeLast cJ3_removeLast 2 (QM G E (kR K) xN) h 0 0 0 [(0, .ref a0)] []
  unfold f_J3_removeLast at hf
  refine v_qload_n (r := (some a0)) (i := 0) dJ3_removeLast_0 rfl rfl ?_
  replace hf := rv_e hf
  obtain ⟨w1, fs2, hh3, hf⟩ := hf
  refine V.addK0 ?_
  refine V.addN0 ?_
  refine v_callV (mc := 0) (ms := 0) 0 dJ3_removeLast_1 (m_J3_pollLast hG hf) rfl hh3 rfl (lw_V q2460 q2461 q2462 q93 q2463) rfl (by decide +kernel) (by decide) rfl (cat_len (Nat.le_of_ble_eq_true rfl)) (kk_R fun r5 h4 hg => ?_) (fun _ _ _ hx => hx.elim)
  replace hf := hg
  clear hg
  refine v_qstore_n (i := 1) (r := r5) (lv' := [(0, va_rf (some a0)), (1, va_rf r5)]) dJ3_removeLast_4 rfl (Nat.le_of_ble_eq_true rfl) rfl rfl ?_
  refine v_qload_n (r := r5) (i := 1) dJ3_removeLast_5 rfl rfl ?_
  refine v_ifnonnull 17 dJ3_removeLast_6 (by decide) (fun y6 e7 => ?_) (fun e7 => ?_)
  · replace hf := hf.2 y6 e7
    subst e7
    refine v_qload_n (r := (some y6)) (i := 1) dJ3_removeLast_17 rfl rfl ?_
    exact v_qret (r := (some y6)) dJ3_removeLast_18 rfl (Or.inl ⟨_, rfl⟩) ⟨_, rfl, hf⟩
  · replace hf := hf.1 e7
    subst e7
    exact hf.elim
abbrev Y_X0_undo : Yt := (yX0_undo, some (.int), 4, 105, [])
def f_X0_undo (G : Gt) (h : Hp) (t_0 : Option Nat) (K : Int32 → Hp → Prop) : Prop :=
gR h t_0 0 2 fun r1 =>
rv h r1 12 (f_J3_isEmpty G h r1 (fun i11 h10 =>
((i11 = 0 → gR h10 t_0 0 2 fun r13 =>
rv h10 r13 12 (f_J3_removeLast G h10 r13 (fun r23 h22 =>
(oc h22 r23 1 ∧ pF h22 t_0 0 0 (va_rf r23) fun h26 =>
gR h26 t_0 0 2 fun r27 =>
rv h26 r27 12 (f_J3_size G h26 r27 (fun i37 h36 =>
K i37 h36)))))) ∧
(¬ (i11 = 0) → K (-1015 : Int32) h10))))
theorem m_X0_undo {G : Gt} {h : Hp} {a0 : Nat} {K : Int32 → Hp → Prop} (hG : Base G) (hf : f_X0_undo G h (some a0) K) : MM G Y_X0_undo cX0_undo 1 0 0 [.ref a0] h (kI K) xN := by
  refine mm_of hG (by decide +kernel) rfl (ac_c rfl ac_nil) (Nat.le_of_ble_eq_true rfl) (fun E _ _ => ?_)
  show V G E Y_X0_undo cX0_undo 1 (QM G E (kI K) xN) h 0 0 0 [(0, .ref a0)] []
  unfold f_X0_undo at hf
  refine v_qload_n (r := (some a0)) (i := 0) dX0_undo_0 rfl rfl ?_
  replace hf := gR_e hf
  obtain ⟨w2, fs3, r1, hh4, hk5, hf⟩ := hf
  refine v_getf (T := TX0) (ci := 0) 2 dX0_undo_1 q277 rfl in_X0 (Nat.le_of_ble_eq_true rfl) (Or.inl rfl) hh4 hk5 ?_
  obtain ⟨a6, rfl⟩ := rv_s hf
  replace hf := rv_e hf
  obtain ⟨w7, fs8, hh9, hf⟩ := hf
  refine V.addK0 ?_
  refine V.addN0 ?_
  refine v_callV (mc := 0) (ms := 0) 0 dX0_undo_4 (m_J3_isEmpty hG hf) rfl hh9 rfl (lw_V q2452 q2453 q2454 q93 q2455) rfl (by decide +kernel) (by decide) rfl (cat_len (Nat.le_of_ble_eq_true rfl)) (kk_I fun i11 h10 hg => ?_) (fun _ _ _ hx => hx.elim)
  replace hf := hg
  clear hg
  refine v_if_eq 14 dX0_undo_7 (by decide) (fun c12 => ?_) (fun c12 => ?_)
  · replace hf := hf.1 c12
    refine v_qload_n (r := (some a0)) (i := 0) dX0_undo_14 rfl rfl ?_
    refine v_qload_n (r := (some a0)) (i := 0) dX0_undo_15 rfl rfl ?_
    replace hf := gR_e hf
    obtain ⟨w14, fs15, r13, hh16, hk17, hf⟩ := hf
    refine v_getf (T := TX0) (ci := 0) 2 dX0_undo_16 q277 rfl in_X0 (Nat.le_of_ble_eq_true rfl) (Or.inl rfl) hh16 hk17 ?_
    obtain ⟨a18, rfl⟩ := rv_s hf
    replace hf := rv_e hf
    obtain ⟨w19, fs20, hh21, hf⟩ := hf
    refine V.addK0 ?_
    refine V.addN0 ?_
    refine v_callV (mc := 0) (ms := 0) 0 dX0_undo_19 (m_J3_removeLast hG hf) rfl hh21 rfl (lw_V q2456 q2457 q2458 q93 q2459) rfl (by decide +kernel) (by decide) rfl (cat_len (Nat.le_of_ble_eq_true rfl)) (kk_R fun r23 h22 hg => ?_) (fun _ _ _ hx => hx.elim)
    replace hf := hg
    clear hg
    obtain ⟨hoc, hf⟩ := hf
    refine v_castQS (r := r23) dX0_undo_22 q147 hoc rfl ?_
    replace hf := pF_e hf
    obtain ⟨fs24, hh25, hf⟩ := hf
    refine v_putf (v := va_rf r23) (T := TX0) (ci := 0) (ty := .object "ParityMaze$Maze") 0 dX0_undo_25 q275 rfl in_X0 tyX0 tyX0_ok nmX0 (Nat.le_of_ble_eq_true rfl) (Or.inl rfl) rfl (by decide +kernel) (rf_nar _ _) (rf_fit _ _) hh25 ?_
    obtain ⟨h26, eh26⟩ : ∃ z, z = hs h22 a0 (true, .inr (0, fs24.set 0 (va_rf r23))) := ⟨_, rfl⟩
    try rw [← eh26] at hf
    rw [← eh26]
    refine v_qload_n (r := (some a0)) (i := 0) dX0_undo_28 rfl rfl ?_
    replace hf := gR_e hf
    obtain ⟨w28, fs29, r27, hh30, hk31, hf⟩ := hf
    refine v_getf (T := TX0) (ci := 0) 2 dX0_undo_29 q277 rfl in_X0 (Nat.le_of_ble_eq_true rfl) (Or.inl rfl) hh30 hk31 ?_
    obtain ⟨a32, rfl⟩ := rv_s hf
    replace hf := rv_e hf
    obtain ⟨w33, fs34, hh35, hf⟩ := hf
    refine V.addK0 ?_
    refine V.addN0 ?_
    refine v_callV (mc := 0) (ms := 0) 0 dX0_undo_32 (m_J3_size hG hf) rfl hh35 rfl (lw_V q608 q609 q610 q93 q611) rfl (by decide +kernel) (by decide) rfl (cat_len (Nat.le_of_ble_eq_true rfl)) (kk_I fun i37 h36 hg => ?_) (fun _ _ _ hx => hx.elim)
    replace hf := hg
    clear hg
    exact v_iret dX0_undo_35 rfl ⟨_, rfl, hf⟩
  · replace hf := hf.2 c12
    refine v_sipush (v := -1015) dX0_undo_10 (by decide) ?_
    exact v_iret dX0_undo_13 rfl ⟨_, rfl, hf⟩
abbrev Y_X0_save : Yt := (yX0_save, some (.int), 6, 144, [])
def f_X0_save (G : Gt) (h : Hp) (k n : Nat) (t_0 : Option Nat) (K : Int32 → Hp → Prop) : Prop :=
gR h t_0 0 0 fun r1 =>
rv h r1 1 (dR G Y_X1_copy cX1_copy 4 [va_rf r1] h k n (fun r11 h10 k14 n15 =>
pF h10 t_0 0 1 (va_rf r11) fun h18 =>
gR h18 t_0 0 1 fun r19 =>
rv h18 r19 1 (f_X1_many G h18 r19 (fun i29 h28 =>
K i29 h28))) xN)
theorem m_X0_save {G : Gt} {h : Hp} {mc ms : Nat} {a0 : Nat} {K : Int32 → Hp → Prop} (hG : Base G) (hA : 0 ≤ mc) (hB : 0 ≤ ms) (hf : f_X0_save G h (mc - 0) (ms - 0) (some a0) K) : MM G Y_X0_save cX0_save 1 mc ms [.ref a0] h (kI K) xN := by
  refine mm_of hG (by decide +kernel) rfl (ac_c rfl ac_nil) (Nat.le_of_ble_eq_true rfl) (fun E _ _ => ?_)
  obtain ⟨k, hk9⟩ : ∃ z, z = mc - 0 := ⟨_, rfl⟩
  obtain ⟨n, hn9⟩ : ∃ z, z = ms - 0 := ⟨_, rfl⟩
  rw [← hk9, ← hn9] at hf
  refine V.weak (k' := k + 0) (n' := n + 0) ?_ (by omega) (by omega)
  show V G E Y_X0_save cX0_save 1 (QM G E (kI K) xN) h (k + 0) (n + 0) 0 [(0, .ref a0)] []
  unfold f_X0_save at hf
  refine v_qload_n (r := (some a0)) (i := 0) dX0_save_0 rfl rfl ?_
  refine v_qload_n (r := (some a0)) (i := 0) dX0_save_1 rfl rfl ?_
  replace hf := gR_e hf
  obtain ⟨w2, fs3, r1, hh4, hk5, hf⟩ := hf
  refine v_getf (T := TX0) (ci := 0) 0 dX0_save_2 q275 rfl in_X0 (Nat.le_of_ble_eq_true rfl) (Or.inl rfl) hh4 hk5 ?_
  obtain ⟨a6, rfl⟩ := rv_s hf
  replace hf := rv_e hf
  obtain ⟨w7, fs8, hh9, hf⟩ := hf
  obtain ⟨mc12, ms13, hkmc12, hnms13, hM⟩ := hf
  refine V.weak (k' := ((k - mc12) + 0) + mc12) (n' := ((n - ms13) + 0) + ms13) ?_ (by omega) (by omega)
  refine v_callV 0 dX0_save_5 hM rfl hh9 rfl (lw_V q309 q310 q311 q89 q312) rfl (by decide +kernel) (by decide) rfl (cat_len (Nat.le_of_ble_eq_true rfl)) (kk_R fun r11 h10 hg => ?_) (fun _ _ _ hx => hx.elim)
  have hf := hg
  clear hg
  replace hf := pF_e hf
  obtain ⟨fs16, hh17, hf⟩ := hf
  refine v_putf (v := va_rf r11) (T := TX0) (ci := 0) (ty := .object "ParityMaze$Maze") 1 dX0_save_8 q276 rfl in_X0 tyX0 tyX0_ok nmX0 (Nat.le_of_ble_eq_true rfl) (Or.inl rfl) rfl (by decide +kernel) (rf_nar _ _) (rf_fit _ _) hh17 ?_
  obtain ⟨h18, eh18⟩ : ∃ z, z = hs h10 a0 (true, .inr (0, fs16.set 1 (va_rf r11))) := ⟨_, rfl⟩
  try rw [← eh18] at hf
  rw [← eh18]
  refine v_qload_n (r := (some a0)) (i := 0) dX0_save_11 rfl rfl ?_
  replace hf := gR_e hf
  obtain ⟨w20, fs21, r19, hh22, hk23, hf⟩ := hf
  refine v_getf (T := TX0) (ci := 0) 1 dX0_save_12 q276 rfl in_X0 (Nat.le_of_ble_eq_true rfl) (Or.inl rfl) hh22 hk23 ?_
  obtain ⟨a24, rfl⟩ := rv_s hf
  replace hf := rv_e hf
  obtain ⟨w25, fs26, hh27, hf⟩ := hf
  refine V.addK0 ?_
  refine V.addN0 ?_
  refine v_callV (mc := 0) (ms := 0) 0 dX0_save_15 (m_X1_many hG hf) rfl hh27 rfl (lw_V q2389 q505 q506 q89 q507) rfl (by decide +kernel) (by decide) rfl (cat_len (Nat.le_of_ble_eq_true rfl)) (kk_I fun i29 h28 hg => ?_) (fun _ _ _ hx => hx.elim)
  replace hf := hg
  clear hg
  exact v_iret dX0_save_18 rfl ⟨_, rfl, hf⟩
abbrev Y_X0_restore : Yt := (yX0_restore, some (.int), 6, 144, [])
def f_X0_restore (G : Gt) (h : Hp) (k n : Nat) (t_0 : Option Nat) (K : Int32 → Hp → Prop) : Prop :=
gR h t_0 0 1 fun r1 =>
((r1 = none → K (-1015 : Int32) h) ∧
(∀ y6, r1 = some y6 → gR h t_0 0 1 fun r8 =>
rv h r8 1 (dR G Y_X1_copy cX1_copy 4 [va_rf r8] h k n (fun r18 h17 k21 n22 =>
pF h17 t_0 0 0 (va_rf r18) fun h25 =>
gR h25 t_0 0 2 fun r26 =>
rv h25 r26 12 (dV G Y_J3_clear cJ3_clear 1 [va_rf r26] h25 k21 n22 (fun h35 k38 n39 =>
gR h35 t_0 0 0 fun r40 =>
rv h35 r40 1 (f_X1_many G h35 r40 (fun i50 h49 =>
K i50 h49))) xN)) xN)))
theorem m_X0_restore {G : Gt} {h : Hp} {mc ms : Nat} {a0 : Nat} {K : Int32 → Hp → Prop} (hG : Base G) (hA : 0 ≤ mc) (hB : 0 ≤ ms) (hf : f_X0_restore G h (mc - 0) (ms - 0) (some a0) K) : MM G Y_X0_restore cX0_restore 1 mc ms [.ref a0] h (kI K) xN := by
  refine mm_of hG (by decide +kernel) rfl (ac_c rfl ac_nil) (Nat.le_of_ble_eq_true rfl) (fun E _ _ => ?_)
  obtain ⟨k, hk9⟩ : ∃ z, z = mc - 0 := ⟨_, rfl⟩
  obtain ⟨n, hn9⟩ : ∃ z, z = ms - 0 := ⟨_, rfl⟩
  rw [← hk9, ← hn9] at hf
  refine V.weak (k' := k + 0) (n' := n + 0) ?_ (by omega) (by omega)
  show V G E Y_X0_restore cX0_restore 1 (QM G E (kI K) xN) h (k + 0) (n + 0) 0 [(0, .ref a0)] []
  unfold f_X0_restore at hf
  refine v_qload_n (r := (some a0)) (i := 0) dX0_restore_0 rfl rfl ?_
  replace hf := gR_e hf
  obtain ⟨w2, fs3, r1, hh4, hk5, hf⟩ := hf
  refine v_getf (T := TX0) (ci := 0) 1 dX0_restore_1 q276 rfl in_X0 (Nat.le_of_ble_eq_true rfl) (Or.inl rfl) hh4 hk5 ?_
  refine v_ifnonnull 11 dX0_restore_4 (by decide) (fun y6 e7 => ?_) (fun e7 => ?_)
  · replace hf := hf.2 y6 e7
    subst e7
    refine v_qload_n (r := (some a0)) (i := 0) dX0_restore_11 rfl rfl ?_
    refine v_qload_n (r := (some a0)) (i := 0) dX0_restore_12 rfl rfl ?_
    replace hf := gR_e hf
    obtain ⟨w9, fs10, r8, hh11, hk12, hf⟩ := hf
    refine v_getf (T := TX0) (ci := 0) 1 dX0_restore_13 q276 rfl in_X0 (Nat.le_of_ble_eq_true rfl) (Or.inl rfl) hh11 hk12 ?_
    obtain ⟨a13, rfl⟩ := rv_s hf
    replace hf := rv_e hf
    obtain ⟨w14, fs15, hh16, hf⟩ := hf
    obtain ⟨mc19, ms20, hkmc19, hnms20, hM⟩ := hf
    refine V.weak (k' := ((k - mc19) + 0) + mc19) (n' := ((n - ms20) + 0) + ms20) ?_ (by omega) (by omega)
    refine v_callV 0 dX0_restore_16 hM rfl hh16 rfl (lw_V q309 q310 q311 q89 q312) rfl (by decide +kernel) (by decide) rfl (cat_len (Nat.le_of_ble_eq_true rfl)) (kk_R fun r18 h17 hg => ?_) (fun _ _ _ hx => hx.elim)
    have hf := hg
    clear hg
    replace hf := pF_e hf
    obtain ⟨fs23, hh24, hf⟩ := hf
    refine v_putf (v := va_rf r18) (T := TX0) (ci := 0) (ty := .object "ParityMaze$Maze") 0 dX0_restore_19 q275 rfl in_X0 tyX0 tyX0_ok nmX0 (Nat.le_of_ble_eq_true rfl) (Or.inl rfl) rfl (by decide +kernel) (rf_nar _ _) (rf_fit _ _) hh24 ?_
    obtain ⟨h25, eh25⟩ : ∃ z, z = hs h17 a0 (true, .inr (0, fs23.set 0 (va_rf r18))) := ⟨_, rfl⟩
    try rw [← eh25] at hf
    rw [← eh25]
    refine v_qload_n (r := (some a0)) (i := 0) dX0_restore_22 rfl rfl ?_
    replace hf := gR_e hf
    obtain ⟨w27, fs28, r26, hh29, hk30, hf⟩ := hf
    refine v_getf (T := TX0) (ci := 0) 2 dX0_restore_23 q277 rfl in_X0 (Nat.le_of_ble_eq_true rfl) (Or.inl rfl) hh29 hk30 ?_
    obtain ⟨a31, rfl⟩ := rv_s hf
    replace hf := rv_e hf
    obtain ⟨w32, fs33, hh34, hf⟩ := hf
    obtain ⟨mc36, ms37, hkmc36, hnms37, hM⟩ := hf
    refine V.weak (k' := (((k - mc19) - mc36) + 0) + mc36) (n' := (((n - ms20) - ms37) + 0) + ms37) ?_ (by omega) (by omega)
    refine v_callV 0 dX0_restore_26 hM rfl hh34 rfl (lw_V q2475 q2476 q2477 q93 q2478) rfl (by decide +kernel) (by decide) rfl (cat_len (Nat.le_of_ble_eq_true rfl)) (kk_V fun h35 hg => ?_) (fun _ _ _ hx => hx.elim)
    have hf := hg
    clear hg
    refine v_qload_n (r := (some a0)) (i := 0) dX0_restore_29 rfl rfl ?_
    replace hf := gR_e hf
    obtain ⟨w41, fs42, r40, hh43, hk44, hf⟩ := hf
    refine v_getf (T := TX0) (ci := 0) 0 dX0_restore_30 q275 rfl in_X0 (Nat.le_of_ble_eq_true rfl) (Or.inl rfl) hh43 hk44 ?_
    obtain ⟨a45, rfl⟩ := rv_s hf
    replace hf := rv_e hf
    obtain ⟨w46, fs47, hh48, hf⟩ := hf
    refine V.addK0 ?_
    refine V.addN0 ?_
    refine v_callV (mc := 0) (ms := 0) 0 dX0_restore_33 (m_X1_many hG hf) rfl hh48 rfl (lw_V q2389 q505 q506 q89 q507) rfl (by decide +kernel) (by decide) rfl (cat_len (Nat.le_of_ble_eq_true rfl)) (kk_I fun i50 h49 hg => ?_) (fun _ _ _ hx => hx.elim)
    replace hf := hg
    clear hg
    exact v_iret dX0_restore_36 rfl ⟨_, rfl, hf⟩
  · replace hf := hf.1 e7
    subst e7
    refine v_sipush (v := -1015) dX0_restore_7 (by decide) ?_
    exact v_iret dX0_restore_10 rfl ⟨_, rfl, hf⟩
