/-! walks printed by tools/mkwalk.py -/
set_option maxRecDepth 100000
abbrev Y_X2_init : Yt := (yX2_init, none, 1, 40, [])
def f_X2_init (G : Gt) (h : Hp) (t_0 : Option Nat) (K : Hp → Prop) : Prop :=
nA h 0 (146, .inl (fun _ => 0)) fun a1 h2 =>
pF h2 t_0 2 0 (.ref a1) fun h5 =>
nA h5 0 (1168, .inl (fun _ => 0)) fun a6 h7 =>
pF h7 t_0 2 1 (.ref a6) fun h10 =>
nA h10 0 (146, .inl (fun _ => 0)) fun a11 h12 =>
pF h12 t_0 2 2 (.ref a11) fun h15 =>
nA h15 0 (146, .inl (fun _ => 0)) fun a16 h17 =>
pF h17 t_0 2 3 (.ref a16) fun h20 =>
nA h20 0 (60, .inl (fun _ => 0)) fun a21 h22 =>
pF h22 t_0 2 9 (.ref a21) fun h25 =>
nA h25 0 (60, .inl (fun _ => 0)) fun a26 h27 =>
pF h27 t_0 2 11 (.ref a26) fun h30 =>
nA h30 0 (20, .inl (fun _ => 0)) fun a31 h32 =>
pF h32 t_0 2 13 (.ref a31) fun h35 =>
nA h35 0 (20, .inl (fun _ => 0)) fun a36 h37 =>
pF h37 t_0 2 14 (.ref a36) fun h40 =>
nA h40 0 (186, .inl (fun _ => 0)) fun a41 h42 =>
pF h42 t_0 2 16 (.ref a41) fun h45 =>
gR h45 t_0 2 0 fun r46 =>
sI h45 r46 (2 : Int32) (-1 : Int32) fun h56 =>
K h56
theorem m_X2_init {G : Gt} {h : Hp} {a0 : Nat} {K : Hp → Prop} (hG : Base G) (hf : f_X2_init G h (some a0) K) : MM G Y_X2_init cX2_init 1 9 1952 [.ref a0] h (kV K) xN := by
  refine mm_of hG (by decide +kernel) rfl (ac_c rfl ac_nil) (Nat.le_of_ble_eq_true rfl) (fun E _ _ => ?_)
  show V G E Y_X2_init cX2_init 1 (QM G E (kV K) xN) h 9 1952 0 [(0, .ref a0)] []
  unfold f_X2_init at hf
  refine v_qload_n (r := (some a0)) (i := 0) dX2_init_0 rfl rfl ?_
  refine v_objInit dX2_init_1 q2487 q153 q154 (cat_len (Nat.le_of_ble_eq_true rfl)) (Nat.le_of_ble_eq_true rfl) (Nat.le_of_ble_eq_true rfl) ?_
  refine v_qload_n (r := (some a0)) (i := 0) dX2_init_4 rfl rfl ?_
  refine v_sipush (v := 146) dX2_init_5 (by decide) ?_
  refine v_newa (t := 0) (N := 146) (x := (146, .inl (fun _ => 0))) dX2_init_8 (Nat.le_of_ble_eq_true rfl) rfl q219 (fun _ => rfl) rfl (Nat.le_of_ble_eq_true rfl) (fun a1 ha1 => ?_)
  replace hf := hf a1 ha1
  obtain ⟨h2, eh2⟩ : ∃ z, z = hs h a1 (true, .inl (0, (146, .inl (fun _ => 0)))) := ⟨_, rfl⟩
  try rw [← eh2] at hf
  rw [← eh2]
  replace hf := pF_e hf
  obtain ⟨fs3, hh4, hf⟩ := hf
  refine v_putfF (v := .ref a1) (T := TX2) (ci := 2) (ty := .array (.int)) 0 dX2_init_10 q2488 rfl in_X2 tyX2 tyX2_ok nmX2 (Nat.le_of_ble_eq_true rfl) (Or.inl rfl) rfl rfl rfl (by decide +kernel) rfl rfl hh4 ?_
  obtain ⟨h5, eh5⟩ : ∃ z, z = hs h2 a0 (true, .inr (2, fs3.set 0 (.ref a1))) := ⟨_, rfl⟩
  try rw [← eh5] at hf
  rw [← eh5]
  refine v_qload_n (r := (some a0)) (i := 0) dX2_init_13 rfl rfl ?_
  refine v_sipush (v := 1168) dX2_init_14 (by decide) ?_
  refine v_newa (t := 0) (N := 1168) (x := (1168, .inl (fun _ => 0))) dX2_init_17 (Nat.le_of_ble_eq_true rfl) rfl q219 (fun _ => rfl) rfl (Nat.le_of_ble_eq_true rfl) (fun a6 ha6 => ?_)
  replace hf := hf a6 ha6
  obtain ⟨h7, eh7⟩ : ∃ z, z = hs h5 a6 (true, .inl (0, (1168, .inl (fun _ => 0)))) := ⟨_, rfl⟩
  try rw [← eh7] at hf
  rw [← eh7]
  replace hf := pF_e hf
  obtain ⟨fs8, hh9, hf⟩ := hf
  refine v_putfF (v := .ref a6) (T := TX2) (ci := 2) (ty := .array (.int)) 1 dX2_init_19 q2489 rfl in_X2 tyX2 tyX2_ok nmX2 (Nat.le_of_ble_eq_true rfl) (Or.inl rfl) rfl rfl rfl (by decide +kernel) rfl rfl hh9 ?_
  obtain ⟨h10, eh10⟩ : ∃ z, z = hs h7 a0 (true, .inr (2, fs8.set 1 (.ref a6))) := ⟨_, rfl⟩
  try rw [← eh10] at hf
  rw [← eh10]
  refine v_qload_n (r := (some a0)) (i := 0) dX2_init_22 rfl rfl ?_
  refine v_sipush (v := 146) dX2_init_23 (by decide) ?_
  refine v_newa (t := 0) (N := 146) (x := (146, .inl (fun _ => 0))) dX2_init_26 (Nat.le_of_ble_eq_true rfl) rfl q219 (fun _ => rfl) rfl (Nat.le_of_ble_eq_true rfl) (fun a11 ha11 => ?_)
  replace hf := hf a11 ha11
  obtain ⟨h12, eh12⟩ : ∃ z, z = hs h10 a11 (true, .inl (0, (146, .inl (fun _ => 0)))) := ⟨_, rfl⟩
  try rw [← eh12] at hf
  rw [← eh12]
  replace hf := pF_e hf
  obtain ⟨fs13, hh14, hf⟩ := hf
  refine v_putfF (v := .ref a11) (T := TX2) (ci := 2) (ty := .array (.int)) 2 dX2_init_28 q2490 rfl in_X2 tyX2 tyX2_ok nmX2 (Nat.le_of_ble_eq_true rfl) (Or.inl rfl) rfl rfl rfl (by decide +kernel) rfl rfl hh14 ?_
  obtain ⟨h15, eh15⟩ : ∃ z, z = hs h12 a0 (true, .inr (2, fs13.set 2 (.ref a11))) := ⟨_, rfl⟩
  try rw [← eh15] at hf
  rw [← eh15]
  refine v_qload_n (r := (some a0)) (i := 0) dX2_init_31 rfl rfl ?_
  refine v_sipush (v := 146) dX2_init_32 (by decide) ?_
  refine v_newa (t := 0) (N := 146) (x := (146, .inl (fun _ => 0))) dX2_init_35 (Nat.le_of_ble_eq_true rfl) rfl q219 (fun _ => rfl) rfl (Nat.le_of_ble_eq_true rfl) (fun a16 ha16 => ?_)
  replace hf := hf a16 ha16
  obtain ⟨h17, eh17⟩ : ∃ z, z = hs h15 a16 (true, .inl (0, (146, .inl (fun _ => 0)))) := ⟨_, rfl⟩
  try rw [← eh17] at hf
  rw [← eh17]
  replace hf := pF_e hf
  obtain ⟨fs18, hh19, hf⟩ := hf
  refine v_putfF (v := .ref a16) (T := TX2) (ci := 2) (ty := .array (.int)) 3 dX2_init_37 q2491 rfl in_X2 tyX2 tyX2_ok nmX2 (Nat.le_of_ble_eq_true rfl) (Or.inl rfl) rfl rfl rfl (by decide +kernel) rfl rfl hh19 ?_
  obtain ⟨h20, eh20⟩ : ∃ z, z = hs h17 a0 (true, .inr (2, fs18.set 3 (.ref a16))) := ⟨_, rfl⟩
  try rw [← eh20] at hf
  rw [← eh20]
  refine v_qload_n (r := (some a0)) (i := 0) dX2_init_40 rfl rfl ?_
  refine v_bipush (v := 60) dX2_init_41 (by decide) ?_
  refine v_newa (t := 0) (N := 60) (x := (60, .inl (fun _ => 0))) dX2_init_43 (Nat.le_of_ble_eq_true rfl) rfl q219 (fun _ => rfl) rfl (Nat.le_of_ble_eq_true rfl) (fun a21 ha21 => ?_)
  replace hf := hf a21 ha21
  obtain ⟨h22, eh22⟩ : ∃ z, z = hs h20 a21 (true, .inl (0, (60, .inl (fun _ => 0)))) := ⟨_, rfl⟩
  try rw [← eh22] at hf
  rw [← eh22]
  replace hf := pF_e hf
  obtain ⟨fs23, hh24, hf⟩ := hf
  refine v_putfF (v := .ref a21) (T := TX2) (ci := 2) (ty := .array (.int)) 9 dX2_init_45 q2497 rfl in_X2 tyX2 tyX2_ok nmX2 (Nat.le_of_ble_eq_true rfl) (Or.inl rfl) rfl rfl rfl (by decide +kernel) rfl rfl hh24 ?_
  obtain ⟨h25, eh25⟩ : ∃ z, z = hs h22 a0 (true, .inr (2, fs23.set 9 (.ref a21))) := ⟨_, rfl⟩
  try rw [← eh25] at hf
  rw [← eh25]
  refine v_qload_n (r := (some a0)) (i := 0) dX2_init_48 rfl rfl ?_
  refine v_bipush (v := 60) dX2_init_49 (by decide) ?_
  refine v_newa (t := 0) (N := 60) (x := (60, .inl (fun _ => 0))) dX2_init_51 (Nat.le_of_ble_eq_true rfl) rfl q219 (fun _ => rfl) rfl (Nat.le_of_ble_eq_true rfl) (fun a26 ha26 => ?_)
  replace hf := hf a26 ha26
  obtain ⟨h27, eh27⟩ : ∃ z, z = hs h25 a26 (true, .inl (0, (60, .inl (fun _ => 0)))) := ⟨_, rfl⟩
  try rw [← eh27] at hf
  rw [← eh27]
  replace hf := pF_e hf
  obtain ⟨fs28, hh29, hf⟩ := hf
  refine v_putfF (v := .ref a26) (T := TX2) (ci := 2) (ty := .array (.int)) 11 dX2_init_53 q2499 rfl in_X2 tyX2 tyX2_ok nmX2 (Nat.le_of_ble_eq_true rfl) (Or.inl rfl) rfl rfl rfl (by decide +kernel) rfl rfl hh29 ?_
  obtain ⟨h30, eh30⟩ : ∃ z, z = hs h27 a0 (true, .inr (2, fs28.set 11 (.ref a26))) := ⟨_, rfl⟩
  try rw [← eh30] at hf
  rw [← eh30]
  refine v_qload_n (r := (some a0)) (i := 0) dX2_init_56 rfl rfl ?_
  refine v_bipush (v := 20) dX2_init_57 (by decide) ?_
  refine v_newa (t := 0) (N := 20) (x := (20, .inl (fun _ => 0))) dX2_init_59 (Nat.le_of_ble_eq_true rfl) rfl q219 (fun _ => rfl) rfl (Nat.le_of_ble_eq_true rfl) (fun a31 ha31 => ?_)
  replace hf := hf a31 ha31
  obtain ⟨h32, eh32⟩ : ∃ z, z = hs h30 a31 (true, .inl (0, (20, .inl (fun _ => 0)))) := ⟨_, rfl⟩
  try rw [← eh32] at hf
  rw [← eh32]
  replace hf := pF_e hf
  obtain ⟨fs33, hh34, hf⟩ := hf
  refine v_putfF (v := .ref a31) (T := TX2) (ci := 2) (ty := .array (.int)) 13 dX2_init_61 q2501 rfl in_X2 tyX2 tyX2_ok nmX2 (Nat.le_of_ble_eq_true rfl) (Or.inl rfl) rfl rfl rfl (by decide +kernel) rfl rfl hh34 ?_
  obtain ⟨h35, eh35⟩ : ∃ z, z = hs h32 a0 (true, .inr (2, fs33.set 13 (.ref a31))) := ⟨_, rfl⟩
  try rw [← eh35] at hf
  rw [← eh35]
  refine v_qload_n (r := (some a0)) (i := 0) dX2_init_64 rfl rfl ?_
  refine v_bipush (v := 20) dX2_init_65 (by decide) ?_
  refine v_newa (t := 0) (N := 20) (x := (20, .inl (fun _ => 0))) dX2_init_67 (Nat.le_of_ble_eq_true rfl) rfl q219 (fun _ => rfl) rfl (Nat.le_of_ble_eq_true rfl) (fun a36 ha36 => ?_)
  replace hf := hf a36 ha36
  obtain ⟨h37, eh37⟩ : ∃ z, z = hs h35 a36 (true, .inl (0, (20, .inl (fun _ => 0)))) := ⟨_, rfl⟩
  try rw [← eh37] at hf
  rw [← eh37]
  replace hf := pF_e hf
  obtain ⟨fs38, hh39, hf⟩ := hf
  refine v_putfF (v := .ref a36) (T := TX2) (ci := 2) (ty := .array (.int)) 14 dX2_init_69 q2502 rfl in_X2 tyX2 tyX2_ok nmX2 (Nat.le_of_ble_eq_true rfl) (Or.inl rfl) rfl rfl rfl (by decide +kernel) rfl rfl hh39 ?_
  obtain ⟨h40, eh40⟩ : ∃ z, z = hs h37 a0 (true, .inr (2, fs38.set 14 (.ref a36))) := ⟨_, rfl⟩
  try rw [← eh40] at hf
  rw [← eh40]
  refine v_qload_n (r := (some a0)) (i := 0) dX2_init_72 rfl rfl ?_
  refine v_sipush (v := 186) dX2_init_73 (by decide) ?_
  refine v_newa (t := 0) (N := 186) (x := (186, .inl (fun _ => 0))) dX2_init_76 (Nat.le_of_ble_eq_true rfl) rfl q219 (fun _ => rfl) rfl (Nat.le_of_ble_eq_true rfl) (fun a41 ha41 => ?_)
  replace hf := hf a41 ha41
  obtain ⟨h42, eh42⟩ : ∃ z, z = hs h40 a41 (true, .inl (0, (186, .inl (fun _ => 0)))) := ⟨_, rfl⟩
  try rw [← eh42] at hf
  rw [← eh42]
  replace hf := pF_e hf
  obtain ⟨fs43, hh44, hf⟩ := hf
  refine v_putfF (v := .ref a41) (T := TX2) (ci := 2) (ty := .array (.int)) 16 dX2_init_78 q2504 rfl in_X2 tyX2 tyX2_ok nmX2 (Nat.le_of_ble_eq_true rfl) (Or.inl rfl) rfl rfl rfl (by decide +kernel) rfl rfl hh44 ?_
  obtain ⟨h45, eh45⟩ : ∃ z, z = hs h42 a0 (true, .inr (2, fs43.set 16 (.ref a41))) := ⟨_, rfl⟩
  try rw [← eh45] at hf
  rw [← eh45]
  refine v_qload_n (r := (some a0)) (i := 0) dX2_init_81 rfl rfl ?_
  replace hf := gR_e hf
  obtain ⟨w47, fs48, r46, hh49, hk50, hf⟩ := hf
  refine v_getf (T := TX2) (ci := 2) 0 dX2_init_82 q2488 rfl in_X2 (Nat.le_of_ble_eq_true rfl) (Or.inl rfl) hh49 hk50 ?_
  refine v_iconst (v := 2) dX2_init_85 (by decide) ?_
  refine v_iconst (v := -1) dX2_init_86 (by decide) ?_
  obtain ⟨a51, rfl⟩ := sI_s hf
  replace hf := sI_e hf
  obtain ⟨N52, f53, hh54, hi55, hf⟩ := hf
  refine v_iast dX2_init_87 hh54 hi55 ?_
  obtain ⟨h56, eh56⟩ : ∃ z, z = hs h45 a51 (true, .inl (0, N52, .inl (upd f53 ((2 : Int32)).toNatClampNeg ((-1 : Int32))))) := ⟨_, rfl⟩
  try rw [← eh56] at hf
  rw [← eh56]
  exact v_vret dX2_init_88 rfl ⟨rfl, hf⟩
abbrev Y_X2_in : Yt := (yX2_in, some (.boolean), 1, 40, [])
def f_X2_in (G : Gt) (h : Hp) (i_0 : Int32) (i_1 : Int32) (i_2 : Int32) (K : Int32 → Hp → Prop) : Prop :=
((i_0 < i_1 → K (0 : Int32) h) ∧
(¬ (i_0 < i_1) → ((i_2 < i_0 → K (0 : Int32) h) ∧
(¬ (i_2 < i_0) → K (1 : Int32) h))))
theorem m_X2_in {G : Gt} {h : Hp} {i_0 : Int32} {i_1 : Int32} {i_2 : Int32} {K : Int32 → Hp → Prop} (hG : Base G) (hf : f_X2_in G h i_0 i_1 i_2 K) : MM G Y_X2_in cX2_in 3 0 0 [.int i_0, .int i_1, .int i_2] h (kI K) xN := by
  refine mm_of hG (by decide +kernel) rfl (ac_c rfl (ac_c rfl (ac_c rfl ac_nil))) (Nat.le_of_ble_eq_true rfl) (fun E _ _ => ?_)
  show V G E Y_X2_in cX2_in 3 (QM G E (kI K) xN) h 0 0 0 [(0, .int i_0), (1, .int i_1), (2, .int i_2)] []
  unfold f_X2_in at hf
  refine v_iload_n (i := 0) dX2_in_0 rfl rfl ?_
  refine v_iload_n (i := 1) dX2_in_1 rfl rfl ?_
  refine v_icmp_lt 14 dX2_in_2 (by decide) (fun c1 => ?_) (fun c1 => ?_)
  · replace hf := hf.1 c1
    refine v_iconst (v := 0) dX2_in_14 (by decide) ?_
    exact v_zret dX2_in_15 rfl (by decide) ⟨_, rfl, hf⟩
  · replace hf := hf.2 c1
    refine v_iload_n (i := 0) dX2_in_5 rfl rfl ?_
    refine v_iload_n (i := 2) dX2_in_6 rfl rfl ?_
    refine v_icmp_gt 14 dX2_in_7 (by decide) (fun c2 => ?_) (fun c2 => ?_)
    · replace hf := hf.1 c2
      refine v_iconst (v := 0) dX2_in_14 (by decide) ?_
      exact v_zret dX2_in_15 rfl (by decide) ⟨_, rfl, hf⟩
    · replace hf := hf.2 c2
      refine v_iconst (v := 1) dX2_in_10 (by decide) ?_
      refine v_goto 15 dX2_in_11 (by decide) ?_
      exact v_zret dX2_in_15 rfl (by decide) ⟨_, rfl, hf⟩
abbrev Y_X2_refuses : Yt := (yX2_refuses, some (.int), 1, 40, [])
def f_X2_refuses (G : Gt) (h : Hp) (t_0 : Option Nat) (i_1 : Int32) (i_2 : Int32) (K : Int32 → Hp → Prop) : Prop :=
pF h t_0 2 7 (.int i_1) fun h3 =>
pF h3 t_0 2 8 (.int i_2) fun h6 =>
K (-1014 : Int32) h6
theorem m_X2_refuses {G : Gt} {h : Hp} {a0 : Nat} {i_1 : Int32} {i_2 : Int32} {K : Int32 → Hp → Prop} (hG : Base G) (hf : f_X2_refuses G h (some a0) i_1 i_2 K) : MM G Y_X2_refuses cX2_refuses 3 0 0 [.ref a0, .int i_1, .int i_2] h (kI K) xN := by
  refine mm_of hG (by decide +kernel) rfl (ac_c rfl (ac_c rfl (ac_c rfl ac_nil))) (Nat.le_of_ble_eq_true rfl) (fun E _ _ => ?_)
  show V G E Y_X2_refuses cX2_refuses 3 (QM G E (kI K) xN) h 0 0 0 [(0, .ref a0), (1, .int i_1), (2, .int i_2)] []
  unfold f_X2_refuses at hf
  refine v_qload_n (r := (some a0)) (i := 0) dX2_refuses_0 rfl rfl ?_
  refine v_iload_n (i := 1) dX2_refuses_1 rfl rfl ?_
  replace hf := pF_e hf
  obtain ⟨fs1, hh2, hf⟩ := hf
  refine v_putf (v := .int i_1) (T := TX2) (ci := 2) (ty := .int) 7 dX2_refuses_2 q2495 rfl in_X2 tyX2 tyX2_ok nmX2 (Nat.le_of_ble_eq_true rfl) (Or.inl rfl) rfl (by decide +kernel) rfl rfl hh2 ?_
  obtain ⟨h3, eh3⟩ : ∃ z, z = hs h a0 (true, .inr (2, fs1.set 7 (.int i_1))) := ⟨_, rfl⟩
  try rw [← eh3] at hf
  rw [← eh3]
  refine v_qload_n (r := (some a0)) (i := 0) dX2_refuses_5 rfl rfl ?_
  refine v_iload_n (i := 2) dX2_refuses_6 rfl rfl ?_
  replace hf := pF_e hf
  obtain ⟨fs4, hh5, hf⟩ := hf
  refine v_putf (v := .int i_2) (T := TX2) (ci := 2) (ty := .int) 8 dX2_refuses_7 q2496 rfl in_X2 tyX2 tyX2_ok nmX2 (Nat.le_of_ble_eq_true rfl) (Or.inl rfl) rfl (by decide +kernel) rfl rfl hh5 ?_
  obtain ⟨h6, eh6⟩ : ∃ z, z = hs h3 a0 (true, .inr (2, fs4.set 8 (.int i_2))) := ⟨_, rfl⟩
  try rw [← eh6] at hf
  rw [← eh6]
  refine v_sipush (v := -1014) dX2_refuses_10 (by decide) ?_
  exact v_iret dX2_refuses_13 rfl ⟨_, rfl, hf⟩
abbrev Y_X2_copies : Yt := (yX2_copies, none, 1, 40, [])
def g_X2_copies_0 (G : Gt) (E : Ev) (h : Hp) (k n : Nat) (r_0 : Option Nat) (i_1 : Int32) (r_2 : Option Nat) (i_3 : Int32) (K : Hp → Prop) : Prop :=
V G E Y_X2_copies cX2_copies 5 (QM G E (kV K) xN) h k n 3 [(0, va_rf r_0), (1, .int i_1), (2, va_rf r_2), (3, .int i_3), (4, .int (0 : Int32))] []
theorem s_X2_copies_0 {G : Gt} {E : Ev} {h : Hp} {k0 n0 : Nat} {r_0 : Option Nat} {i_1 : Int32} {r_2 : Option Nat} {i_3 : Int32} {K : Hp → Prop} (hG : Base G) (hA : 0 ≤ k0) (hB : 0 ≤ n0) (hf : g_X2_copies_0 G E h (k0 - 0) (n0 - 0) r_0 i_1 r_2 i_3 K) : V G E Y_X2_copies cX2_copies 5 (QM G E (kV K) xN) h k0 n0 0 [(0, va_rf r_0), (1, .int i_1), (2, va_rf r_2), (3, .int i_3)] [] := by
  obtain ⟨k, hk9⟩ : ∃ z, z = k0 - 0 := ⟨_, rfl⟩
  obtain ⟨n, hn9⟩ : ∃ z, z = n0 - 0 := ⟨_, rfl⟩
  rw [← hk9, ← hn9] at hf
  refine V.weak (k' := k + 0) (n' := n + 0) ?_ (by omega) (by omega)
  unfold g_X2_copies_0 at hf
  refine v_iconst (v := 0) dX2_copies_0 (by decide) ?_
  refine v_istore (i := 4) (lv' := [(0, va_rf r_0), (1, .int i_1), (2, va_rf r_2), (3, .int i_3), (4, .int (0 : Int32))]) dX2_copies_1 (Nat.le_of_ble_eq_true rfl) rfl rfl ?_
  exact V.weak hf (by omega) (by omega)
def g_X2_copies_3 (G : Gt) (E : Ev) (h : Hp) (k n : Nat) (r_0 : Option Nat) (i_1 : Int32) (r_2 : Option Nat) (i_3 : Int32) (i_4 : Int32) (K : Hp → Prop) : Prop :=
(((146 : Int32) ≤ i_4 → K h) ∧
(¬ ((146 : Int32) ≤ i_4) → aI h r_0 0 (i_1 + i_4) fun i8 =>
sI h r_2 (i_3 + i_4) i8 fun h14 =>
V G E Y_X2_copies cX2_copies 5 (QM G E (kV K) xN) h14 k n 3 [(0, va_rf r_0), (1, .int i_1), (2, va_rf r_2), (3, .int i_3), (4, .int (i_4 + (1 : Int32)))] []))
theorem s_X2_copies_3 {G : Gt} {E : Ev} {h : Hp} {k0 n0 : Nat} {r_0 : Option Nat} {i_1 : Int32} {r_2 : Option Nat} {i_3 : Int32} {i_4 : Int32} {K : Hp → Prop} (hG : Base G) (hA : 0 ≤ k0) (hB : 0 ≤ n0) (hf : g_X2_copies_3 G E h (k0 - 0) (n0 - 0) r_0 i_1 r_2 i_3 i_4 K) : V G E Y_X2_copies cX2_copies 5 (QM G E (kV K) xN) h k0 n0 3 [(0, va_rf r_0), (1, .int i_1), (2, va_rf r_2), (3, .int i_3), (4, .int i_4)] [] := by
  obtain ⟨k, hk9⟩ : ∃ z, z = k0 - 0 := ⟨_, rfl⟩
  obtain ⟨n, hn9⟩ : ∃ z, z = n0 - 0 := ⟨_, rfl⟩
  rw [← hk9, ← hn9] at hf
  refine V.weak (k' := k + 0) (n' := n + 0) ?_ (by omega) (by omega)
  unfold g_X2_copies_3 at hf
  refine v_iload (i := 4) dX2_copies_3 rfl ?_
  refine v_sipush (v := 146) dX2_copies_5 (by decide) ?_
  refine v_icmp_ge 29 dX2_copies_8 (by decide) (fun c1 => ?_) (fun c1 => ?_)
  · replace hf := hf.1 c1
    exact v_vret dX2_copies_29 rfl ⟨rfl, hf⟩
  · replace hf := hf.2 c1
    refine v_qload_n (r := r_2) (i := 2) dX2_copies_11 rfl rfl ?_
    refine v_iload_n (i := 3) dX2_copies_12 rfl rfl ?_
    refine v_iload (i := 4) dX2_copies_13 rfl ?_
    refine v_iadd dX2_copies_15 ?_
    refine v_qload_n (r := r_0) (i := 0) dX2_copies_16 rfl rfl ?_
    refine v_iload_n (i := 1) dX2_copies_17 rfl rfl ?_
    refine v_iload (i := 4) dX2_copies_18 rfl ?_
    refine v_iadd dX2_copies_20 ?_
    obtain ⟨a2, rfl⟩ := aI_s hf
    replace hf := aI_e hf
    obtain ⟨w3, N4, f5, hh6, hi7, i8, ei8, hf⟩ := hf
    refine v_iald dX2_copies_21 hh6 hi7 ?_
    rw [← ei8]
    obtain ⟨a9, rfl⟩ := sI_s hf
    replace hf := sI_e hf
    obtain ⟨N10, f11, hh12, hi13, hf⟩ := hf
    refine v_iast dX2_copies_22 hh12 hi13 ?_
    obtain ⟨h14, eh14⟩ : ∃ z, z = hs h a9 (true, .inl (0, N10, .inl (upd f11 (i_3 + i_4).toNatClampNeg (i8)))) := ⟨_, rfl⟩
    try rw [← eh14] at hf
    rw [← eh14]
    refine v_iinc (i := 4) (v := i_4 + (1 : Int32)) (lv' := [(0, va_rf (some a2)), (1, .int i_1), (2, va_rf (some a9)), (3, .int i_3), (4, .int (i_4 + (1 : Int32)))]) dX2_copies_23 rfl rfl (Nat.le_of_ble_eq_true rfl) rfl rfl ?_
    refine v_goto 3 dX2_copies_26 (by decide) ?_
    exact V.weak hf (by omega) (by omega)
theorem b_X2_copies {G : Gt} {h : Hp} {mc ms : Nat} {r_0 : Option Nat} {i_1 : Int32} {r_2 : Option Nat} {i_3 : Int32} {K : Hp → Prop} (hG : Base G) (hf : ∀ E : Ev, V G E Y_X2_copies cX2_copies 5 (QM G E (kV K) xN) h mc ms 0 [(0, va_rf r_0), (1, .int i_1), (2, va_rf r_2), (3, .int i_3)] []) : MM G Y_X2_copies cX2_copies 5 mc ms [va_rf r_0, .int i_1, va_rf r_2, .int i_3] h (kV K) xN := mm_of hG (by decide +kernel) rfl (ac_c (rf_cat _) (ac_c rfl (ac_c (rf_cat _) (ac_c rfl ac_nil)))) (Nat.le_of_ble_eq_true rfl) (fun E _ _ => hf E)
abbrev Y_X2_keeps : Yt := (yX2_keeps, none, 2, 64, [])
def g_X2_keeps_0 (G : Gt) (E : Ev) (h : Hp) (k n : Nat) (a0 : Nat) (r_1 : Option Nat) (K : Hp → Prop) : Prop :=
gI h (some a0) 2 6 fun i1 =>
((i1 = 0 → gI h (some a0) 2 5 fun i7 =>
((¬ (i7 = (8 : Int32)) → gR h (some a0) 2 1 fun r13 =>
gI h (some a0) 2 5 fun i18 =>
dV G Y_X2_copies cX2_copies 5 [va_rf r_1, .int (0 : Int32), va_rf r13, .int ((146 : Int32) * i18)] h k n (fun h23 k26 n27 =>
gI h23 (some a0) 2 5 fun i28 =>
pF h23 (some a0) 2 5 (.int (i28 + (1 : Int32))) fun h35 =>
K h35) xN) ∧
(i7 = (8 : Int32) → V G E Y_X2_keeps cX2_keeps 3 (QM G E (kV K) xN) h k n 19 [(0, .ref a0), (1, va_rf r_1), (2, .int (0 : Int32))] []))) ∧
(¬ (i1 = 0) → K h))
theorem s_X2_keeps_0 {G : Gt} {E : Ev} {h : Hp} {k0 n0 : Nat} {a0 : Nat} {r_1 : Option Nat} {K : Hp → Prop} (hG : Base G) (hA : 0 ≤ k0) (hB : 0 ≤ n0) (hf : g_X2_keeps_0 G E h (k0 - 0) (n0 - 0) a0 r_1 K) : V G E Y_X2_keeps cX2_keeps 3 (QM G E (kV K) xN) h k0 n0 0 [(0, .ref a0), (1, va_rf r_1)] [] := by
  obtain ⟨k, hk9⟩ : ∃ z, z = k0 - 0 := ⟨_, rfl⟩
  obtain ⟨n, hn9⟩ : ∃ z, z = n0 - 0 := ⟨_, rfl⟩
  rw [← hk9, ← hn9] at hf
  refine V.weak (k' := k + 0) (n' := n + 0) ?_ (by omega) (by omega)
  unfold g_X2_keeps_0 at hf
  refine v_aload_n (i := 0) dX2_keeps_0 rfl rfl ?_
  replace hf := gI_e hf
  obtain ⟨w2, fs3, i1, hh4, hk5, hf⟩ := hf
  refine v_getf (T := TX2) (ci := 2) 6 dX2_keeps_1 q2494 rfl in_X2 (Nat.le_of_ble_eq_true rfl) (Or.inl rfl) hh4 hk5 ?_
  refine v_if_eq 8 dX2_keeps_4 (by decide) (fun c6 => ?_) (fun c6 => ?_)
  · replace hf := hf.1 c6
    refine v_aload_n (i := 0) dX2_keeps_8 rfl rfl ?_
    replace hf := gI_e hf
    obtain ⟨w8, fs9, i7, hh10, hk11, hf⟩ := hf
    refine v_getf (T := TX2) (ci := 2) 5 dX2_keeps_9 q2493 rfl in_X2 (Nat.le_of_ble_eq_true rfl) (Or.inl rfl) hh10 hk11 ?_
    refine v_bipush (v := 8) dX2_keeps_12 (by decide) ?_
    refine v_icmp_ne 58 dX2_keeps_14 (by decide) (fun c12 => ?_) (fun c12 => ?_)
    · replace hf := hf.1 c12
      refine v_qload_n (r := r_1) (i := 1) dX2_keeps_58 rfl rfl ?_
      refine v_iconst (v := 0) dX2_keeps_59 (by decide) ?_
      refine v_aload_n (i := 0) dX2_keeps_60 rfl rfl ?_
      replace hf := gR_e hf
      obtain ⟨w14, fs15, r13, hh16, hk17, hf⟩ := hf
      refine v_getf (T := TX2) (ci := 2) 1 dX2_keeps_61 q2489 rfl in_X2 (Nat.le_of_ble_eq_true rfl) (Or.inl rfl) hh16 hk17 ?_
      refine v_sipush (v := 146) dX2_keeps_64 (by decide) ?_
      refine v_aload_n (i := 0) dX2_keeps_67 rfl rfl ?_
      replace hf := gI_e hf
      obtain ⟨w19, fs20, i18, hh21, hk22, hf⟩ := hf
      refine v_getf (T := TX2) (ci := 2) 5 dX2_keeps_68 q2493 rfl in_X2 (Nat.le_of_ble_eq_true rfl) (Or.inl rfl) hh21 hk22 ?_
      refine v_imul dX2_keeps_71 ?_
      obtain ⟨mc24, ms25, hkmc24, hnms25, hM⟩ := hf
      refine V.weak (k' := ((k - mc24) + 0) + mc24) (n' := ((n - ms25) + 0) + ms25) ?_ (by omega) (by omega)
      refine v_callS 4 dX2_keeps_72 hM rfl (lw_S q2558 q2559 q98 q2560) rfl (by decide +kernel) (by decide) rfl (cat_len (Nat.le_of_ble_eq_true rfl)) (kk_V fun h23 hg => ?_) (fun _ _ _ hx => hx.elim)
      have hf := hg
      clear hg
      refine v_aload_n (i := 0) dX2_keeps_75 rfl rfl ?_
      refine v_dup dX2_keeps_76 rfl ?_
      replace hf := gI_e hf
      obtain ⟨w29, fs30, i28, hh31, hk32, hf⟩ := hf
      refine v_getf (T := TX2) (ci := 2) 5 dX2_keeps_77 q2493 rfl in_X2 (Nat.le_of_ble_eq_true rfl) (Or.inl rfl) hh31 hk32 ?_
      refine v_iconst (v := 1) dX2_keeps_80 (by decide) ?_
      refine v_iadd dX2_keeps_81 ?_
      replace hf := pF_e hf
      obtain ⟨fs33, hh34, hf⟩ := hf
      refine v_putf (v := .int (i28 + (1 : Int32))) (T := TX2) (ci := 2) (ty := .int) 5 dX2_keeps_82 q2493 rfl in_X2 tyX2 tyX2_ok nmX2 (Nat.le_of_ble_eq_true rfl) (Or.inl rfl) rfl (by decide +kernel) rfl rfl hh34 ?_
      obtain ⟨h35, eh35⟩ : ∃ z, z = hs h23 a0 (true, .inr (2, fs33.set 5 (.int (i28 + (1 : Int32))))) := ⟨_, rfl⟩
      try rw [← eh35] at hf
      rw [← eh35]
      exact v_vret dX2_keeps_85 rfl ⟨rfl, hf⟩
    · replace hf := hf.2 c12
      refine v_iconst (v := 0) dX2_keeps_17 (by decide) ?_
      refine v_istore_n (i := 2) (lv' := [(0, .ref a0), (1, va_rf r_1), (2, .int (0 : Int32))]) dX2_keeps_18 rfl (Nat.le_of_ble_eq_true rfl) rfl rfl ?_
      exact V.weak hf (by omega) (by omega)
  · replace hf := hf.2 c6
    exact v_vret dX2_keeps_7 rfl ⟨rfl, hf⟩
def g_X2_keeps_19 (G : Gt) (E : Ev) (h : Hp) (k n : Nat) (a0 : Nat) (r_1 : Option Nat) (i_2 : Int32) (K : Hp → Prop) : Prop :=
(((1022 : Int32) ≤ i_2 → gI h (some a0) 2 5 fun i2 =>
pF h (some a0) 2 5 (.int (i2 - (1 : Int32))) fun h9 =>
gR h9 (some a0) 2 1 fun r10 =>
gI h9 (some a0) 2 5 fun i15 =>
dV G Y_X2_copies cX2_copies 5 [va_rf r_1, .int (0 : Int32), va_rf r10, .int ((146 : Int32) * i15)] h9 k n (fun h20 k23 n24 =>
gI h20 (some a0) 2 5 fun i25 =>
pF h20 (some a0) 2 5 (.int (i25 + (1 : Int32))) fun h32 =>
K h32) xN) ∧
(¬ ((1022 : Int32) ≤ i_2) → gR h (some a0) 2 1 fun r33 =>
gR h (some a0) 2 1 fun r38 =>
aI h r38 0 (i_2 + (146 : Int32)) fun i49 =>
sI h r33 i_2 i49 fun h55 =>
V G E Y_X2_keeps cX2_keeps 3 (QM G E (kV K) xN) h55 k n 19 [(0, .ref a0), (1, va_rf r_1), (2, .int (i_2 + (1 : Int32)))] []))
theorem s_X2_keeps_19 {G : Gt} {E : Ev} {h : Hp} {k0 n0 : Nat} {a0 : Nat} {r_1 : Option Nat} {i_2 : Int32} {K : Hp → Prop} (hG : Base G) (hA : 0 ≤ k0) (hB : 0 ≤ n0) (hf : g_X2_keeps_19 G E h (k0 - 0) (n0 - 0) a0 r_1 i_2 K) : V G E Y_X2_keeps cX2_keeps 3 (QM G E (kV K) xN) h k0 n0 19 [(0, .ref a0), (1, va_rf r_1), (2, .int i_2)] [] := by
  obtain ⟨k, hk9⟩ : ∃ z, z = k0 - 0 := ⟨_, rfl⟩
  obtain ⟨n, hn9⟩ : ∃ z, z = n0 - 0 := ⟨_, rfl⟩
  rw [← hk9, ← hn9] at hf
  refine V.weak (k' := k + 0) (n' := n + 0) ?_ (by omega) (by omega)
  unfold g_X2_keeps_19 at hf
  refine v_iload_n (i := 2) dX2_keeps_19 rfl rfl ?_
  refine v_sipush (v := 1022) dX2_keeps_20 (by decide) ?_
  refine v_icmp_ge 48 dX2_keeps_23 (by decide) (fun c1 => ?_) (fun c1 => ?_)
  · replace hf := hf.1 c1
    refine v_aload_n (i := 0) dX2_keeps_48 rfl rfl ?_
    refine v_dup dX2_keeps_49 rfl ?_
    replace hf := gI_e hf
    obtain ⟨w3, fs4, i2, hh5, hk6, hf⟩ := hf
    refine v_getf (T := TX2) (ci := 2) 5 dX2_keeps_50 q2493 rfl in_X2 (Nat.le_of_ble_eq_true rfl) (Or.inl rfl) hh5 hk6 ?_
    refine v_iconst (v := 1) dX2_keeps_53 (by decide) ?_
    refine v_isub dX2_keeps_54 ?_
    replace hf := pF_e hf
    obtain ⟨fs7, hh8, hf⟩ := hf
    refine v_putf (v := .int (i2 - (1 : Int32))) (T := TX2) (ci := 2) (ty := .int) 5 dX2_keeps_55 q2493 rfl in_X2 tyX2 tyX2_ok nmX2 (Nat.le_of_ble_eq_true rfl) (Or.inl rfl) rfl (by decide +kernel) rfl rfl hh8 ?_
    obtain ⟨h9, eh9⟩ : ∃ z, z = hs h a0 (true, .inr (2, fs7.set 5 (.int (i2 - (1 : Int32))))) := ⟨_, rfl⟩
    try rw [← eh9] at hf
    rw [← eh9]
    refine v_qload_n (r := r_1) (i := 1) dX2_keeps_58 rfl rfl ?_
    refine v_iconst (v := 0) dX2_keeps_59 (by decide) ?_
    refine v_aload_n (i := 0) dX2_keeps_60 rfl rfl ?_
    replace hf := gR_e hf
    obtain ⟨w11, fs12, r10, hh13, hk14, hf⟩ := hf
    refine v_getf (T := TX2) (ci := 2) 1 dX2_keeps_61 q2489 rfl in_X2 (Nat.le_of_ble_eq_true rfl) (Or.inl rfl) hh13 hk14 ?_
    refine v_sipush (v := 146) dX2_keeps_64 (by decide) ?_
    refine v_aload_n (i := 0) dX2_keeps_67 rfl rfl ?_
    replace hf := gI_e hf
    obtain ⟨w16, fs17, i15, hh18, hk19, hf⟩ := hf
    refine v_getf (T := TX2) (ci := 2) 5 dX2_keeps_68 q2493 rfl in_X2 (Nat.le_of_ble_eq_true rfl) (Or.inl rfl) hh18 hk19 ?_
    refine v_imul dX2_keeps_71 ?_
    obtain ⟨mc21, ms22, hkmc21, hnms22, hM⟩ := hf
    refine V.weak (k' := ((k - mc21) + 0) + mc21) (n' := ((n - ms22) + 0) + ms22) ?_ (by omega) (by omega)
    refine v_callS 4 dX2_keeps_72 hM rfl (lw_S q2558 q2559 q98 q2560) rfl (by decide +kernel) (by decide) rfl (cat_len (Nat.le_of_ble_eq_true rfl)) (kk_V fun h20 hg => ?_) (fun _ _ _ hx => hx.elim)
    have hf := hg
    clear hg
    refine v_aload_n (i := 0) dX2_keeps_75 rfl rfl ?_
    refine v_dup dX2_keeps_76 rfl ?_
    replace hf := gI_e hf
    obtain ⟨w26, fs27, i25, hh28, hk29, hf⟩ := hf
    refine v_getf (T := TX2) (ci := 2) 5 dX2_keeps_77 q2493 rfl in_X2 (Nat.le_of_ble_eq_true rfl) (Or.inl rfl) hh28 hk29 ?_
    refine v_iconst (v := 1) dX2_keeps_80 (by decide) ?_
    refine v_iadd dX2_keeps_81 ?_
    replace hf := pF_e hf
    obtain ⟨fs30, hh31, hf⟩ := hf
    refine v_putf (v := .int (i25 + (1 : Int32))) (T := TX2) (ci := 2) (ty := .int) 5 dX2_keeps_82 q2493 rfl in_X2 tyX2 tyX2_ok nmX2 (Nat.le_of_ble_eq_true rfl) (Or.inl rfl) rfl (by decide +kernel) rfl rfl hh31 ?_
    obtain ⟨h32, eh32⟩ : ∃ z, z = hs h20 a0 (true, .inr (2, fs30.set 5 (.int (i25 + (1 : Int32))))) := ⟨_, rfl⟩
    try rw [← eh32] at hf
    rw [← eh32]
    exact v_vret dX2_keeps_85 rfl ⟨rfl, hf⟩
  · replace hf := hf.2 c1
    refine v_aload_n (i := 0) dX2_keeps_26 rfl rfl ?_
    replace hf := gR_e hf
    obtain ⟨w34, fs35, r33, hh36, hk37, hf⟩ := hf
    refine v_getf (T := TX2) (ci := 2) 1 dX2_keeps_27 q2489 rfl in_X2 (Nat.le_of_ble_eq_true rfl) (Or.inl rfl) hh36 hk37 ?_
    refine v_iload_n (i := 2) dX2_keeps_30 rfl rfl ?_
    refine v_aload_n (i := 0) dX2_keeps_31 rfl rfl ?_
    replace hf := gR_e hf
    obtain ⟨w39, fs40, r38, hh41, hk42, hf⟩ := hf
    refine v_getf (T := TX2) (ci := 2) 1 dX2_keeps_32 q2489 rfl in_X2 (Nat.le_of_ble_eq_true rfl) (Or.inl rfl) hh41 hk42 ?_
    refine v_iload_n (i := 2) dX2_keeps_35 rfl rfl ?_
    refine v_sipush (v := 146) dX2_keeps_36 (by decide) ?_
    refine v_iadd dX2_keeps_39 ?_
    obtain ⟨a43, rfl⟩ := aI_s hf
    replace hf := aI_e hf
    obtain ⟨w44, N45, f46, hh47, hi48, i49, ei49, hf⟩ := hf
    refine v_iald dX2_keeps_40 hh47 hi48 ?_
    rw [← ei49]
    obtain ⟨a50, rfl⟩ := sI_s hf
    replace hf := sI_e hf
    obtain ⟨N51, f52, hh53, hi54, hf⟩ := hf
    refine v_iast dX2_keeps_41 hh53 hi54 ?_
    obtain ⟨h55, eh55⟩ : ∃ z, z = hs h a50 (true, .inl (0, N51, .inl (upd f52 (i_2).toNatClampNeg (i49)))) := ⟨_, rfl⟩
    try rw [← eh55] at hf
    rw [← eh55]
    refine v_iinc (i := 2) (v := i_2 + (1 : Int32)) (lv' := [(0, .ref a0), (1, va_rf r_1), (2, .int (i_2 + (1 : Int32)))]) dX2_keeps_42 rfl rfl (Nat.le_of_ble_eq_true rfl) rfl rfl ?_
    refine v_goto 19 dX2_keeps_45 (by decide) ?_
    exact V.weak hf (by omega) (by omega)
theorem b_X2_keeps {G : Gt} {h : Hp} {mc ms : Nat} {a0 : Nat} {r_1 : Option Nat} {K : Hp → Prop} (hG : Base G) (hf : ∀ E : Ev, V G E Y_X2_keeps cX2_keeps 3 (QM G E (kV K) xN) h mc ms 0 [(0, .ref a0), (1, va_rf r_1)] []) : MM G Y_X2_keeps cX2_keeps 3 mc ms [.ref a0, va_rf r_1] h (kV K) xN := mm_of hG (by decide +kernel) rfl (ac_c rfl (ac_c (rf_cat _) ac_nil)) (Nat.le_of_ble_eq_true rfl) (fun E _ _ => hf E)
abbrev Y_X2_room : Yt := (yX2_room, some (.int), 3, 86, [])
def f_X2_room (G : Gt) (h : Hp) (k n : Nat) (t_0 : Option Nat) (i_1 : Int32) (K : Int32 → Hp → Prop) : Prop :=
f_X2_in G h i_1 (0 : Int32) (50 : Int32) (fun i2 h1 =>
((¬ (i2 = 0) → gR h1 t_0 2 0 fun r4 =>
aI h1 r4 0 (0 : Int32) fun i15 =>
((¬ (i15 = (10 : Int32)) → gR h1 t_0 2 0 fun r17 =>
rv h1 t_0 2 (dV G Y_X2_keeps cX2_keeps 3 [va_rf t_0, va_rf r17] h1 k n (fun h25 k28 n29 =>
gR h25 t_0 2 0 fun r30 =>
gR h25 t_0 2 0 fun r35 =>
aI h25 r35 0 (0 : Int32) fun i46 =>
sI h25 r30 ((10 : Int32) + ((4 : Int32) * i46)) i_1 fun h52 =>
gR h52 t_0 2 0 fun r53 =>
aI h52 r53 0 (0 : Int32) fun i64 =>
sI h52 r53 (0 : Int32) (i64 + (1 : Int32)) fun h69 =>
gR h69 t_0 2 0 fun r70 =>
aI h69 r70 0 (2 : Int32) fun i81 =>
((0 ≤ i81 → gR h69 t_0 2 0 fun r83 =>
aI h69 r83 0 (0 : Int32) fun i94 =>
K (i94 - (1 : Int32)) h69) ∧
(¬ (0 ≤ i81) → gR h69 t_0 2 0 fun r95 =>
sI h69 r95 (2 : Int32) (0 : Int32) fun h105 =>
gR h105 t_0 2 0 fun r106 =>
aI h105 r106 0 (0 : Int32) fun i117 =>
K (i117 - (1 : Int32)) h105))) xN)) ∧
(i15 = (10 : Int32) → rv h1 t_0 2 (f_X2_refuses G h1 t_0 (1 : Int32) (10 : Int32) (fun i122 h121 =>
K i122 h121))))) ∧
(i2 = 0 → K (-1012 : Int32) h1)))
theorem m_X2_room {G : Gt} {h : Hp} {mc ms : Nat} {a0 : Nat} {i_1 : Int32} {K : Int32 → Hp → Prop} (hG : Base G) (hA : 0 ≤ mc) (hB : 0 ≤ ms) (hf : f_X2_room G h (mc - 0) (ms - 0) (some a0) i_1 K) : MM G Y_X2_room cX2_room 2 mc ms [.ref a0, .int i_1] h (kI K) xN := by
  refine mm_of hG (by decide +kernel) rfl (ac_c rfl (ac_c rfl ac_nil)) (Nat.le_of_ble_eq_true rfl) (fun E _ _ => ?_)
  obtain ⟨k, hk9⟩ : ∃ z, z = mc - 0 := ⟨_, rfl⟩
  obtain ⟨n, hn9⟩ : ∃ z, z = ms - 0 := ⟨_, rfl⟩
  rw [← hk9, ← hn9] at hf
  refine V.weak (k' := k + 0) (n' := n + 0) ?_ (by omega) (by omega)
  show V G E Y_X2_room cX2_room 2 (QM G E (kI K) xN) h (k + 0) (n + 0) 0 [(0, .ref a0), (1, .int i_1)] []
  unfold f_X2_room at hf
  refine v_iload_n (i := 1) dX2_room_0 rfl rfl ?_
  refine v_iconst (v := 0) dX2_room_1 (by decide) ?_
  refine v_bipush (v := 50) dX2_room_2 (by decide) ?_
  refine V.addK0 ?_
  refine V.addN0 ?_
  refine v_callS (mc := 0) (ms := 0) 3 dX2_room_4 (m_X2_in hG hf) rfl (lw_S q2547 q2548 q98 q2549) rfl (by decide +kernel) (by decide) rfl (cat_len (Nat.le_of_ble_eq_true rfl)) (kk_I fun i2 h1 hg => ?_) (fun _ _ _ hx => hx.elim)
  replace hf := hg
  clear hg
  refine v_if_ne 14 dX2_room_7 (by decide) (fun c3 => ?_) (fun c3 => ?_)
  · replace hf := hf.1 c3
    refine v_qload_n (r := (some a0)) (i := 0) dX2_room_14 rfl rfl ?_
    replace hf := gR_e hf
    obtain ⟨w5, fs6, r4, hh7, hk8, hf⟩ := hf
    refine v_getf (T := TX2) (ci := 2) 0 dX2_room_15 q2488 rfl in_X2 (Nat.le_of_ble_eq_true rfl) (Or.inl rfl) hh7 hk8 ?_
    refine v_iconst (v := 0) dX2_room_18 (by decide) ?_
    obtain ⟨a9, rfl⟩ := aI_s hf
    replace hf := aI_e hf
    obtain ⟨w10, N11, f12, hh13, hi14, i15, ei15, hf⟩ := hf
    refine v_iald dX2_room_19 hh13 hi14 ?_
    rw [← ei15]
    refine v_bipush (v := 10) dX2_room_20 (by decide) ?_
    refine v_icmp_ne 33 dX2_room_22 (by decide) (fun c16 => ?_) (fun c16 => ?_)
    · replace hf := hf.1 c16
      refine v_qload_n (r := (some a0)) (i := 0) dX2_room_33 rfl rfl ?_
      refine v_qload_n (r := (some a0)) (i := 0) dX2_room_34 rfl rfl ?_
      replace hf := gR_e hf
      obtain ⟨w18, fs19, r17, hh20, hk21, hf⟩ := hf
      refine v_getf (T := TX2) (ci := 2) 0 dX2_room_35 q2488 rfl in_X2 (Nat.le_of_ble_eq_true rfl) (Or.inl rfl) hh20 hk21 ?_
      replace hf := rv_e hf
      obtain ⟨w22, fs23, hh24, hf⟩ := hf
      obtain ⟨mc26, ms27, hkmc26, hnms27, hM⟩ := hf
      refine V.weak (k' := ((k - mc26) + 0) + mc26) (n' := ((n - ms27) + 0) + ms27) ?_ (by omega) (by omega)
      refine v_callV 1 dX2_room_38 hM rfl hh24 rfl (lw_V q2554 q2556 qs48 q98 q2557) rfl (by decide +kernel) (by decide) rfl (cat_len (Nat.le_of_ble_eq_true rfl)) (kk_V fun h25 hg => ?_) (fun _ _ _ hx => hx.elim)
      have hf := hg
      clear hg
      refine v_qload_n (r := (some a0)) (i := 0) dX2_room_41 rfl rfl ?_
      replace hf := gR_e hf
      obtain ⟨w31, fs32, r30, hh33, hk34, hf⟩ := hf
      refine v_getf (T := TX2) (ci := 2) 0 dX2_room_42 q2488 rfl in_X2 (Nat.le_of_ble_eq_true rfl) (Or.inl rfl) hh33 hk34 ?_
      refine v_bipush (v := 10) dX2_room_45 (by decide) ?_
      refine v_iconst (v := 4) dX2_room_47 (by decide) ?_
      refine v_qload_n (r := (some a0)) (i := 0) dX2_room_48 rfl rfl ?_
      replace hf := gR_e hf
      obtain ⟨w36, fs37, r35, hh38, hk39, hf⟩ := hf
      refine v_getf (T := TX2) (ci := 2) 0 dX2_room_49 q2488 rfl in_X2 (Nat.le_of_ble_eq_true rfl) (Or.inl rfl) hh38 hk39 ?_
      refine v_iconst (v := 0) dX2_room_52 (by decide) ?_
      obtain ⟨a40, rfl⟩ := aI_s hf
      replace hf := aI_e hf
      obtain ⟨w41, N42, f43, hh44, hi45, i46, ei46, hf⟩ := hf
      refine v_iald dX2_room_53 hh44 hi45 ?_
      rw [← ei46]
      refine v_imul dX2_room_54 ?_
      refine v_iadd dX2_room_55 ?_
      refine v_iload_n (i := 1) dX2_room_56 rfl rfl ?_
      obtain ⟨a47, rfl⟩ := sI_s hf
      replace hf := sI_e hf
      obtain ⟨N48, f49, hh50, hi51, hf⟩ := hf
      refine v_iast dX2_room_57 hh50 hi51 ?_
      obtain ⟨h52, eh52⟩ : ∃ z, z = hs h25 a47 (true, .inl (0, N48, .inl (upd f49 ((10 : Int32) + ((4 : Int32) * i46)).toNatClampNeg (i_1)))) := ⟨_, rfl⟩
      try rw [← eh52] at hf
      rw [← eh52]
      refine v_qload_n (r := (some a0)) (i := 0) dX2_room_58 rfl rfl ?_
      replace hf := gR_e hf
      obtain ⟨w54, fs55, r53, hh56, hk57, hf⟩ := hf
      refine v_getf (T := TX2) (ci := 2) 0 dX2_room_59 q2488 rfl in_X2 (Nat.le_of_ble_eq_true rfl) (Or.inl rfl) hh56 hk57 ?_
      refine v_iconst (v := 0) dX2_room_62 (by decide) ?_
      refine v_dup2 dX2_room_63 rfl (rf_cat _) ?_
      obtain ⟨a58, rfl⟩ := aI_s hf
      replace hf := aI_e hf
      obtain ⟨w59, N60, f61, hh62, hi63, i64, ei64, hf⟩ := hf
      refine v_iald dX2_room_64 hh62 hi63 ?_
      rw [← ei64]
      refine v_iconst (v := 1) dX2_room_65 (by decide) ?_
      refine v_iadd dX2_room_66 ?_
      replace hf := sI_e hf
      obtain ⟨N65, f66, hh67, hi68, hf⟩ := hf
      refine v_iast dX2_room_67 hh67 hi68 ?_
      obtain ⟨h69, eh69⟩ : ∃ z, z = hs h52 a58 (true, .inl (0, N65, .inl (upd f66 ((0 : Int32)).toNatClampNeg (i64 + (1 : Int32))))) := ⟨_, rfl⟩
      try rw [← eh69] at hf
      rw [← eh69]
      refine v_qload_n (r := (some a0)) (i := 0) dX2_room_68 rfl rfl ?_
      replace hf := gR_e hf
      obtain ⟨w71, fs72, r70, hh73, hk74, hf⟩ := hf
      refine v_getf (T := TX2) (ci := 2) 0 dX2_room_69 q2488 rfl in_X2 (Nat.le_of_ble_eq_true rfl) (Or.inl rfl) hh73 hk74 ?_
      refine v_iconst (v := 2) dX2_room_72 (by decide) ?_
      obtain ⟨a75, rfl⟩ := aI_s hf
      replace hf := aI_e hf
      obtain ⟨w76, N77, f78, hh79, hi80, i81, ei81, hf⟩ := hf
      refine v_iald dX2_room_73 hh79 hi80 ?_
      rw [← ei81]
      refine v_if_ge 84 dX2_room_74 (by decide) (fun c82 => ?_) (fun c82 => ?_)
      · replace hf := hf.1 c82
        refine v_qload_n (r := (some a0)) (i := 0) dX2_room_84 rfl rfl ?_
        replace hf := gR_e hf
        obtain ⟨w84, fs85, r83, hh86, hk87, hf⟩ := hf
        refine v_getf (T := TX2) (ci := 2) 0 dX2_room_85 q2488 rfl in_X2 (Nat.le_of_ble_eq_true rfl) (Or.inl rfl) hh86 hk87 ?_
        refine v_iconst (v := 0) dX2_room_88 (by decide) ?_
        obtain ⟨a88, rfl⟩ := aI_s hf
        replace hf := aI_e hf
        obtain ⟨w89, N90, f91, hh92, hi93, i94, ei94, hf⟩ := hf
        refine v_iald dX2_room_89 hh92 hi93 ?_
        rw [← ei94]
        refine v_iconst (v := 1) dX2_room_90 (by decide) ?_
        refine v_isub dX2_room_91 ?_
        exact v_iret dX2_room_92 rfl ⟨_, rfl, hf⟩
      · replace hf := hf.2 c82
        refine v_qload_n (r := (some a0)) (i := 0) dX2_room_77 rfl rfl ?_
        replace hf := gR_e hf
        obtain ⟨w96, fs97, r95, hh98, hk99, hf⟩ := hf
        refine v_getf (T := TX2) (ci := 2) 0 dX2_room_78 q2488 rfl in_X2 (Nat.le_of_ble_eq_true rfl) (Or.inl rfl) hh98 hk99 ?_
        refine v_iconst (v := 2) dX2_room_81 (by decide) ?_
        refine v_iconst (v := 0) dX2_room_82 (by decide) ?_
        obtain ⟨a100, rfl⟩ := sI_s hf
        replace hf := sI_e hf
        obtain ⟨N101, f102, hh103, hi104, hf⟩ := hf
        refine v_iast dX2_room_83 hh103 hi104 ?_
        obtain ⟨h105, eh105⟩ : ∃ z, z = hs h69 a100 (true, .inl (0, N101, .inl (upd f102 ((2 : Int32)).toNatClampNeg ((0 : Int32))))) := ⟨_, rfl⟩
        try rw [← eh105] at hf
        rw [← eh105]
        refine v_qload_n (r := (some a0)) (i := 0) dX2_room_84 rfl rfl ?_
        replace hf := gR_e hf
        obtain ⟨w107, fs108, r106, hh109, hk110, hf⟩ := hf
        refine v_getf (T := TX2) (ci := 2) 0 dX2_room_85 q2488 rfl in_X2 (Nat.le_of_ble_eq_true rfl) (Or.inl rfl) hh109 hk110 ?_
        refine v_iconst (v := 0) dX2_room_88 (by decide) ?_
        obtain ⟨a111, rfl⟩ := aI_s hf
        replace hf := aI_e hf
        obtain ⟨w112, N113, f114, hh115, hi116, i117, ei117, hf⟩ := hf
        refine v_iald dX2_room_89 hh115 hi116 ?_
        rw [← ei117]
        refine v_iconst (v := 1) dX2_room_90 (by decide) ?_
        refine v_isub dX2_room_91 ?_
        exact v_iret dX2_room_92 rfl ⟨_, rfl, hf⟩
    · replace hf := hf.2 c16
      refine v_qload_n (r := (some a0)) (i := 0) dX2_room_25 rfl rfl ?_
      refine v_iconst (v := 1) dX2_room_26 (by decide) ?_
      refine v_bipush (v := 10) dX2_room_27 (by decide) ?_
      replace hf := rv_e hf
      obtain ⟨w118, fs119, hh120, hf⟩ := hf
      refine V.addK0 ?_
      refine V.addN0 ?_
      refine v_callV (mc := 0) (ms := 0) 2 dX2_room_29 (m_X2_refuses hG hf) rfl hh120 rfl (lw_V q2550 q2552 qs47 q98 q2553) rfl (by decide +kernel) (by decide) rfl (cat_len (Nat.le_of_ble_eq_true rfl)) (kk_I fun i122 h121 hg => ?_) (fun _ _ _ hx => hx.elim)
      replace hf := hg
      clear hg
      exact v_iret dX2_room_32 rfl ⟨_, rfl, hf⟩
  · replace hf := hf.2 c3
    refine v_sipush (v := -1012) dX2_room_10 (by decide) ?_
    exact v_iret dX2_room_13 rfl ⟨_, rfl, hf⟩
abbrev Y_X2_isRoom : Yt := (yX2_isRoom, some (.boolean), 2, 62, [])
def f_X2_isRoom (G : Gt) (h : Hp) (t_0 : Option Nat) (i_1 : Int32) (K : Int32 → Hp → Prop) : Prop :=
gR h t_0 2 0 fun r1 =>
aI h r1 0 (0 : Int32) fun i12 =>
f_X2_in G h i_1 (0 : Int32) (i12 - (1 : Int32)) (fun i14 h13 =>
(narrow .boolean (.int i14) = .int i14 ∧ K i14 h13))
theorem m_X2_isRoom {G : Gt} {h : Hp} {a0 : Nat} {i_1 : Int32} {K : Int32 → Hp → Prop} (hG : Base G) (hf : f_X2_isRoom G h (some a0) i_1 K) : MM G Y_X2_isRoom cX2_isRoom 2 0 0 [.ref a0, .int i_1] h (kI K) xN := by
  refine mm_of hG (by decide +kernel) rfl (ac_c rfl (ac_c rfl ac_nil)) (Nat.le_of_ble_eq_true rfl) (fun E _ _ => ?_)
  show V G E Y_X2_isRoom cX2_isRoom 2 (QM G E (kI K) xN) h 0 0 0 [(0, .ref a0), (1, .int i_1)] []
  unfold f_X2_isRoom at hf
  refine v_iload_n (i := 1) dX2_isRoom_0 rfl rfl ?_
  refine v_iconst (v := 0) dX2_isRoom_1 (by decide) ?_
  refine v_qload_n (r := (some a0)) (i := 0) dX2_isRoom_2 rfl rfl ?_
  replace hf := gR_e hf
  obtain ⟨w2, fs3, r1, hh4, hk5, hf⟩ := hf
  refine v_getf (T := TX2) (ci := 2) 0 dX2_isRoom_3 q2488 rfl in_X2 (Nat.le_of_ble_eq_true rfl) (Or.inl rfl) hh4 hk5 ?_
  refine v_iconst (v := 0) dX2_isRoom_6 (by decide) ?_
  obtain ⟨a6, rfl⟩ := aI_s hf
  replace hf := aI_e hf
  obtain ⟨w7, N8, f9, hh10, hi11, i12, ei12, hf⟩ := hf
  refine v_iald dX2_isRoom_7 hh10 hi11 ?_
  rw [← ei12]
  refine v_iconst (v := 1) dX2_isRoom_8 (by decide) ?_
  refine v_isub dX2_isRoom_9 ?_
  refine V.addK0 ?_
  refine V.addN0 ?_
  refine v_callS (mc := 0) (ms := 0) 3 dX2_isRoom_10 (m_X2_in hG hf) rfl (lw_S q2547 q2548 q98 q2549) rfl (by decide +kernel) (by decide) rfl (cat_len (Nat.le_of_ble_eq_true rfl)) (kk_I fun i14 h13 hg => ?_) (fun _ _ _ hx => hx.elim)
  replace hf := hg
  clear hg
  exact v_zret dX2_isRoom_13 rfl hf.1 ⟨_, rfl, hf.2⟩
abbrev Y_X2_of : Yt := (yX2_of, some (.int), 1, 40, [])
def f_X2_of (G : Gt) (h : Hp) (t_0 : Option Nat) (i_1 : Int32) (i_2 : Int32) (K : Int32 → Hp → Prop) : Prop :=
gR h t_0 2 0 fun r1 =>
aI h r1 0 (((50 : Int32) + ((6 : Int32) * i_1)) + i_2) fun i12 =>
K i12 h
theorem m_X2_of {G : Gt} {h : Hp} {a0 : Nat} {i_1 : Int32} {i_2 : Int32} {K : Int32 → Hp → Prop} (hG : Base G) (hf : f_X2_of G h (some a0) i_1 i_2 K) : MM G Y_X2_of cX2_of 3 0 0 [.ref a0, .int i_1, .int i_2] h (kI K) xN := by
  refine mm_of hG (by decide +kernel) rfl (ac_c rfl (ac_c rfl (ac_c rfl ac_nil))) (Nat.le_of_ble_eq_true rfl) (fun E _ _ => ?_)
  show V G E Y_X2_of cX2_of 3 (QM G E (kI K) xN) h 0 0 0 [(0, .ref a0), (1, .int i_1), (2, .int i_2)] []
  unfold f_X2_of at hf
  refine v_qload_n (r := (some a0)) (i := 0) dX2_of_0 rfl rfl ?_
  replace hf := gR_e hf
  obtain ⟨w2, fs3, r1, hh4, hk5, hf⟩ := hf
  refine v_getf (T := TX2) (ci := 2) 0 dX2_of_1 q2488 rfl in_X2 (Nat.le_of_ble_eq_true rfl) (Or.inl rfl) hh4 hk5 ?_
  refine v_bipush (v := 50) dX2_of_4 (by decide) ?_
  refine v_bipush (v := 6) dX2_of_6 (by decide) ?_
  refine v_iload_n (i := 1) dX2_of_8 rfl rfl ?_
  refine v_imul dX2_of_9 ?_
  refine v_iadd dX2_of_10 ?_
  refine v_iload_n (i := 2) dX2_of_11 rfl rfl ?_
  refine v_iadd dX2_of_12 ?_
  obtain ⟨a6, rfl⟩ := aI_s hf
  replace hf := aI_e hf
  obtain ⟨w7, N8, f9, hh10, hi11, i12, ei12, hf⟩ := hf
  refine v_iald dX2_of_13 hh10 hi11 ?_
  rw [← ei12]
  exact v_iret dX2_of_14 rfl ⟨_, rfl, hf⟩
abbrev Y_X2_least : Yt := (yX2_least, some (.int), 1, 40, [])
def f_X2_least (G : Gt) (h : Hp) (i_0 : Int32) (i_1 : Int32) (K : Int32 → Hp → Prop) : Prop :=
((i_1 ≤ i_0 → K i_1 h) ∧
(¬ (i_1 ≤ i_0) → K i_0 h))
theorem m_X2_least {G : Gt} {h : Hp} {i_0 : Int32} {i_1 : Int32} {K : Int32 → Hp → Prop} (hG : Base G) (hf : f_X2_least G h i_0 i_1 K) : MM G Y_X2_least cX2_least 2 0 0 [.int i_0, .int i_1] h (kI K) xN := by
  refine mm_of hG (by decide +kernel) rfl (ac_c rfl (ac_c rfl ac_nil)) (Nat.le_of_ble_eq_true rfl) (fun E _ _ => ?_)
  show V G E Y_X2_least cX2_least 2 (QM G E (kI K) xN) h 0 0 0 [(0, .int i_0), (1, .int i_1)] []
  unfold f_X2_least at hf
  refine v_iload_n (i := 0) dX2_least_0 rfl rfl ?_
  refine v_iload_n (i := 1) dX2_least_1 rfl rfl ?_
  refine v_icmp_ge 9 dX2_least_2 (by decide) (fun c1 => ?_) (fun c1 => ?_)
  · replace hf := hf.1 c1
    refine v_iload_n (i := 1) dX2_least_9 rfl rfl ?_
    exact v_iret dX2_least_10 rfl ⟨_, rfl, hf⟩
  · replace hf := hf.2 c1
    refine v_iload_n (i := 0) dX2_least_5 rfl rfl ?_
    refine v_goto 10 dX2_least_6 (by decide) ?_
    exact v_iret dX2_least_10 rfl ⟨_, rfl, hf⟩
abbrev Y_X2_most : Yt := (yX2_most, some (.int), 1, 40, [])
def f_X2_most (G : Gt) (h : Hp) (i_0 : Int32) (i_1 : Int32) (K : Int32 → Hp → Prop) : Prop :=
((i_0 ≤ i_1 → K i_1 h) ∧
(¬ (i_0 ≤ i_1) → K i_0 h))
theorem m_X2_most {G : Gt} {h : Hp} {i_0 : Int32} {i_1 : Int32} {K : Int32 → Hp → Prop} (hG : Base G) (hf : f_X2_most G h i_0 i_1 K) : MM G Y_X2_most cX2_most 2 0 0 [.int i_0, .int i_1] h (kI K) xN := by
  refine mm_of hG (by decide +kernel) rfl (ac_c rfl (ac_c rfl ac_nil)) (Nat.le_of_ble_eq_true rfl) (fun E _ _ => ?_)
  show V G E Y_X2_most cX2_most 2 (QM G E (kI K) xN) h 0 0 0 [(0, .int i_0), (1, .int i_1)] []
  unfold f_X2_most at hf
  refine v_iload_n (i := 0) dX2_most_0 rfl rfl ?_
  refine v_iload_n (i := 1) dX2_most_1 rfl rfl ?_
  refine v_icmp_le 9 dX2_most_2 (by decide) (fun c1 => ?_) (fun c1 => ?_)
  · replace hf := hf.1 c1
    refine v_iload_n (i := 1) dX2_most_9 rfl rfl ?_
    exact v_iret dX2_most_10 rfl ⟨_, rfl, hf⟩
  · replace hf := hf.2 c1
    refine v_iload_n (i := 0) dX2_most_5 rfl rfl ?_
    refine v_goto 10 dX2_most_6 (by decide) ?_
    exact v_iret dX2_most_10 rfl ⟨_, rfl, hf⟩
abbrev Y_X2_between : Yt := (yX2_between, some (.int), 2, 62, [])
def g_X2_between_0 (G : Gt) (E : Ev) (h : Hp) (k n : Nat) (a0 : Nat) (i_1 : Int32) (i_2 : Int32) (K : Int32 → Hp → Prop) : Prop :=
V G E Y_X2_between cX2_between 4 (QM G E (kI K) xN) h k n 2 [(0, .ref a0), (1, .int i_1), (2, .int i_2), (3, .int (0 : Int32))] []
theorem s_X2_between_0 {G : Gt} {E : Ev} {h : Hp} {k0 n0 : Nat} {a0 : Nat} {i_1 : Int32} {i_2 : Int32} {K : Int32 → Hp → Prop} (hG : Base G) (hA : 0 ≤ k0) (hB : 0 ≤ n0) (hf : g_X2_between_0 G E h (k0 - 0) (n0 - 0) a0 i_1 i_2 K) : V G E Y_X2_between cX2_between 4 (QM G E (kI K) xN) h k0 n0 0 [(0, .ref a0), (1, .int i_1), (2, .int i_2)] [] := by
  obtain ⟨k, hk9⟩ : ∃ z, z = k0 - 0 := ⟨_, rfl⟩
  obtain ⟨n, hn9⟩ : ∃ z, z = n0 - 0 := ⟨_, rfl⟩
  rw [← hk9, ← hn9] at hf
  refine V.weak (k' := k + 0) (n' := n + 0) ?_ (by omega) (by omega)
  unfold g_X2_between_0 at hf
  refine v_iconst (v := 0) dX2_between_0 (by decide) ?_
  refine v_istore_n (i := 3) (lv' := [(0, .ref a0), (1, .int i_1), (2, .int i_2), (3, .int (0 : Int32))]) dX2_between_1 rfl (Nat.le_of_ble_eq_true rfl) rfl rfl ?_
  exact V.weak hf (by omega) (by omega)
def g_X2_between_2 (G : Gt) (E : Ev) (h : Hp) (k n : Nat) (a0 : Nat) (i_1 : Int32) (i_2 : Int32) (i_3 : Int32) (K : Int32 → Hp → Prop) : Prop :=
gR h (some a0) 2 0 fun r1 =>
aI h r1 0 (1 : Int32) fun i12 =>
((i12 ≤ i_3 → K (-1 : Int32) h) ∧
(¬ (i12 ≤ i_3) → rv h (some a0) 2 (f_X2_of G h (some a0) i_3 (0 : Int32) (fun i18 h17 =>
f_X2_least G h17 i_1 i_2 (fun i20 h19 =>
((¬ (i18 = i20) → V G E Y_X2_between cX2_between 4 (QM G E (kI K) xN) h19 k n 2 [(0, .ref a0), (1, .int i_1), (2, .int i_2), (3, .int (i_3 + (1 : Int32)))] []) ∧
(i18 = i20 → rv h19 (some a0) 2 (f_X2_of G h19 (some a0) i_3 (1 : Int32) (fun i26 h25 =>
f_X2_most G h25 i_1 i_2 (fun i28 h27 =>
((¬ (i26 = i28) → V G E Y_X2_between cX2_between 4 (QM G E (kI K) xN) h27 k n 2 [(0, .ref a0), (1, .int i_1), (2, .int i_2), (3, .int (i_3 + (1 : Int32)))] []) ∧
(i26 = i28 → K i_3 h27))))))))))))
theorem s_X2_between_2 {G : Gt} {E : Ev} {h : Hp} {k0 n0 : Nat} {a0 : Nat} {i_1 : Int32} {i_2 : Int32} {i_3 : Int32} {K : Int32 → Hp → Prop} (hG : Base G) (hA : 0 ≤ k0) (hB : 0 ≤ n0) (hf : g_X2_between_2 G E h (k0 - 0) (n0 - 0) a0 i_1 i_2 i_3 K) : V G E Y_X2_between cX2_between 4 (QM G E (kI K) xN) h k0 n0 2 [(0, .ref a0), (1, .int i_1), (2, .int i_2), (3, .int i_3)] [] := by
  obtain ⟨k, hk9⟩ : ∃ z, z = k0 - 0 := ⟨_, rfl⟩
  obtain ⟨n, hn9⟩ : ∃ z, z = n0 - 0 := ⟨_, rfl⟩
  rw [← hk9, ← hn9] at hf
  refine V.weak (k' := k + 0) (n' := n + 0) ?_ (by omega) (by omega)
  unfold g_X2_between_2 at hf
  refine v_iload_n (i := 3) dX2_between_2 rfl rfl ?_
  refine v_aload_n (i := 0) dX2_between_3 rfl rfl ?_
  replace hf := gR_e hf
  obtain ⟨w2, fs3, r1, hh4, hk5, hf⟩ := hf
  refine v_getf (T := TX2) (ci := 2) 0 dX2_between_4 q2488 rfl in_X2 (Nat.le_of_ble_eq_true rfl) (Or.inl rfl) hh4 hk5 ?_
  refine v_iconst (v := 1) dX2_between_7 (by decide) ?_
  obtain ⟨a6, rfl⟩ := aI_s hf
  replace hf := aI_e hf
  obtain ⟨w7, N8, f9, hh10, hi11, i12, ei12, hf⟩ := hf
  refine v_iald dX2_between_8 hh10 hi11 ?_
  rw [← ei12]
  refine v_icmp_ge 48 dX2_between_9 (by decide) (fun c13 => ?_) (fun c13 => ?_)
  · replace hf := hf.1 c13
    refine v_iconst (v := -1) dX2_between_48 (by decide) ?_
    exact v_iret dX2_between_49 rfl ⟨_, rfl, hf⟩
  · replace hf := hf.2 c13
    refine v_aload_n (i := 0) dX2_between_12 rfl rfl ?_
    refine v_iload_n (i := 3) dX2_between_13 rfl rfl ?_
    refine v_iconst (v := 0) dX2_between_14 (by decide) ?_
    replace hf := rv_e hf
    obtain ⟨w14, fs15, hh16, hf⟩ := hf
    refine V.addK0 ?_
    refine V.addN0 ?_
    refine v_callV (mc := 0) (ms := 0) 2 dX2_between_15 (m_X2_of hG hf) rfl hh16 rfl (lw_V q2573 q2575 qs51 q98 q2576) rfl (by decide +kernel) (by decide) rfl (cat_len (Nat.le_of_ble_eq_true rfl)) (kk_I fun i18 h17 hg => ?_) (fun _ _ _ hx => hx.elim)
    replace hf := hg
    clear hg
    refine v_iload_n (i := 1) dX2_between_18 rfl rfl ?_
    refine v_iload_n (i := 2) dX2_between_19 rfl rfl ?_
    refine V.addK0 ?_
    refine V.addN0 ?_
    refine v_callS (mc := 0) (ms := 0) 2 dX2_between_20 (m_X2_least hG hf) rfl (lw_S q2577 q2578 q98 q2579) rfl (by decide +kernel) (by decide) rfl (cat_len (Nat.le_of_ble_eq_true rfl)) (kk_I fun i20 h19 hg => ?_) (fun _ _ _ hx => hx.elim)
    replace hf := hg
    clear hg
    refine v_icmp_ne 42 dX2_between_23 (by decide) (fun c21 => ?_) (fun c21 => ?_)
    · replace hf := hf.1 c21
      refine v_iinc (i := 3) (v := i_3 + (1 : Int32)) (lv' := [(0, .ref a0), (1, .int i_1), (2, .int i_2), (3, .int (i_3 + (1 : Int32)))]) dX2_between_42 rfl rfl (Nat.le_of_ble_eq_true rfl) rfl rfl ?_
      refine v_goto 2 dX2_between_45 (by decide) ?_
      exact V.weak hf (by omega) (by omega)
    · replace hf := hf.2 c21
      refine v_aload_n (i := 0) dX2_between_26 rfl rfl ?_
      refine v_iload_n (i := 3) dX2_between_27 rfl rfl ?_
      refine v_iconst (v := 1) dX2_between_28 (by decide) ?_
      replace hf := rv_e hf
      obtain ⟨w22, fs23, hh24, hf⟩ := hf
      refine V.addK0 ?_
      refine V.addN0 ?_
      refine v_callV (mc := 0) (ms := 0) 2 dX2_between_29 (m_X2_of hG hf) rfl hh24 rfl (lw_V q2573 q2575 qs51 q98 q2576) rfl (by decide +kernel) (by decide) rfl (cat_len (Nat.le_of_ble_eq_true rfl)) (kk_I fun i26 h25 hg => ?_) (fun _ _ _ hx => hx.elim)
      replace hf := hg
      clear hg
      refine v_iload_n (i := 1) dX2_between_32 rfl rfl ?_
      refine v_iload_n (i := 2) dX2_between_33 rfl rfl ?_
      refine V.addK0 ?_
      refine V.addN0 ?_
      refine v_callS (mc := 0) (ms := 0) 2 dX2_between_34 (m_X2_most hG hf) rfl (lw_S q2580 q2581 q98 q2582) rfl (by decide +kernel) (by decide) rfl (cat_len (Nat.le_of_ble_eq_true rfl)) (kk_I fun i28 h27 hg => ?_) (fun _ _ _ hx => hx.elim)
      replace hf := hg
      clear hg
      refine v_icmp_ne 42 dX2_between_37 (by decide) (fun c29 => ?_) (fun c29 => ?_)
      · replace hf := hf.1 c29
        refine v_iinc (i := 3) (v := i_3 + (1 : Int32)) (lv' := [(0, .ref a0), (1, .int i_1), (2, .int i_2), (3, .int (i_3 + (1 : Int32)))]) dX2_between_42 rfl rfl (Nat.le_of_ble_eq_true rfl) rfl rfl ?_
        refine v_goto 2 dX2_between_45 (by decide) ?_
        exact V.weak hf (by omega) (by omega)
      · replace hf := hf.2 c29
        refine v_iload_n (i := 3) dX2_between_40 rfl rfl ?_
        exact v_iret dX2_between_41 rfl ⟨_, rfl, hf⟩
theorem b_X2_between {G : Gt} {h : Hp} {mc ms : Nat} {a0 : Nat} {i_1 : Int32} {i_2 : Int32} {K : Int32 → Hp → Prop} (hG : Base G) (hf : ∀ E : Ev, V G E Y_X2_between cX2_between 4 (QM G E (kI K) xN) h mc ms 0 [(0, .ref a0), (1, .int i_1), (2, .int i_2)] []) : MM G Y_X2_between cX2_between 4 mc ms [.ref a0, .int i_1, .int i_2] h (kI K) xN := mm_of hG (by decide +kernel) rfl (ac_c rfl (ac_c rfl (ac_c rfl ac_nil))) (Nat.le_of_ble_eq_true rfl) (fun E _ _ => hf E)
abbrev Y_X2_isColour : Yt := (yX2_isColour, some (.boolean), 2, 62, [])
def f_X2_isColour (G : Gt) (h : Hp) (i_0 : Int32) (K : Int32 → Hp → Prop) : Prop :=
f_X2_in G h i_0 (0 : Int32) (2 : Int32) (fun i2 h1 =>
(narrow .boolean (.int i2) = .int i2 ∧ K i2 h1))
theorem m_X2_isColour {G : Gt} {h : Hp} {i_0 : Int32} {K : Int32 → Hp → Prop} (hG : Base G) (hf : f_X2_isColour G h i_0 K) : MM G Y_X2_isColour cX2_isColour 1 0 0 [.int i_0] h (kI K) xN := by
  refine mm_of hG (by decide +kernel) rfl (ac_c rfl ac_nil) (Nat.le_of_ble_eq_true rfl) (fun E _ _ => ?_)
  show V G E Y_X2_isColour cX2_isColour 1 (QM G E (kI K) xN) h 0 0 0 [(0, .int i_0)] []
  unfold f_X2_isColour at hf
  refine v_iload_n (i := 0) dX2_isColour_0 rfl rfl ?_
  refine v_iconst (v := 0) dX2_isColour_1 (by decide) ?_
  refine v_iconst (v := 2) dX2_isColour_2 (by decide) ?_
  refine V.addK0 ?_
  refine V.addN0 ?_
  refine v_callS (mc := 0) (ms := 0) 3 dX2_isColour_3 (m_X2_in hG hf) rfl (lw_S q2547 q2548 q98 q2549) rfl (by decide +kernel) (by decide) rfl (cat_len (Nat.le_of_ble_eq_true rfl)) (kk_I fun i2 h1 hg => ?_) (fun _ _ _ hx => hx.elim)
  replace hf := hg
  clear hg
  exact v_zret dX2_isColour_6 rfl hf.1 ⟨_, rfl, hf.2⟩
abbrev Y_X2_key : Yt := (yX2_key, some (.int), 3, 86, [])
def f_X2_key (G : Gt) (h : Hp) (k n : Nat) (t_0 : Option Nat) (i_1 : Int32) (i_2 : Int32) (K : Int32 → Hp → Prop) : Prop :=
rv h t_0 2 (f_X2_isRoom G h t_0 i_1 (fun i5 h4 =>
((¬ (i5 = 0) → f_X2_isColour G h4 i_2 (fun i8 h7 =>
((¬ (i8 = 0) → gR h7 t_0 2 0 fun r10 =>
aI h7 r10 0 ((((10 : Int32) + ((4 : Int32) * i_1)) + (1 : Int32)) + i_2) fun i21 =>
((¬ (i21 = (9 : Int32)) → gR h7 t_0 2 0 fun r23 =>
rv h7 t_0 2 (dV G Y_X2_keeps cX2_keeps 3 [va_rf t_0, va_rf r23] h7 k n (fun h31 k34 n35 =>
gR h31 t_0 2 0 fun r36 =>
aI h31 r36 0 ((((10 : Int32) + ((4 : Int32) * i_1)) + (1 : Int32)) + i_2) fun i47 =>
sI h31 r36 ((((10 : Int32) + ((4 : Int32) * i_1)) + (1 : Int32)) + i_2) (i47 + (1 : Int32)) fun h52 =>
gR h52 t_0 2 0 fun r53 =>
aI h52 r53 0 (7 : Int32) fun i64 =>
sI h52 r53 (7 : Int32) (i64 + (1 : Int32)) fun h69 =>
gR h69 t_0 2 0 fun r70 =>
aI h69 r70 0 ((((10 : Int32) + ((4 : Int32) * i_1)) + (1 : Int32)) + i_2) fun i81 =>
K i81 h69) xN)) ∧
(i21 = (9 : Int32) → rv h7 t_0 2 (f_X2_refuses G h7 t_0 (10 : Int32) (10 : Int32) (fun i86 h85 =>
K i86 h85))))) ∧
(i8 = 0 → K (-1012 : Int32) h7)))) ∧
(i5 = 0 → K (-1011 : Int32) h4))))
theorem m_X2_key {G : Gt} {h : Hp} {mc ms : Nat} {a0 : Nat} {i_1 : Int32} {i_2 : Int32} {K : Int32 → Hp → Prop} (hG : Base G) (hA : 0 ≤ mc) (hB : 0 ≤ ms) (hf : f_X2_key G h (mc - 0) (ms - 0) (some a0) i_1 i_2 K) : MM G Y_X2_key cX2_key 4 mc ms [.ref a0, .int i_1, .int i_2] h (kI K) xN := by
  refine mm_of hG (by decide +kernel) rfl (ac_c rfl (ac_c rfl (ac_c rfl ac_nil))) (Nat.le_of_ble_eq_true rfl) (fun E _ _ => ?_)
  obtain ⟨k, hk9⟩ : ∃ z, z = mc - 0 := ⟨_, rfl⟩
  obtain ⟨n, hn9⟩ : ∃ z, z = ms - 0 := ⟨_, rfl⟩
  rw [← hk9, ← hn9] at hf
  refine V.weak (k' := k + 0) (n' := n + 0) ?_ (by omega) (by omega)
  show V G E Y_X2_key cX2_key 4 (QM G E (kI K) xN) h (k + 0) (n + 0) 0 [(0, .ref a0), (1, .int i_1), (2, .int i_2)] []
  unfold f_X2_key at hf
  refine v_qload_n (r := (some a0)) (i := 0) dX2_key_0 rfl rfl ?_
  refine v_iload_n (i := 1) dX2_key_1 rfl rfl ?_
  replace hf := rv_e hf
  obtain ⟨w1, fs2, hh3, hf⟩ := hf
  refine V.addK0 ?_
  refine V.addN0 ?_
  refine v_callV (mc := 0) (ms := 0) 1 dX2_key_2 (m_X2_isRoom hG hf) rfl hh3 rfl (lw_V q2565 q2567 qs49 q98 q2568) rfl (by decide +kernel) (by decide) rfl (cat_len (Nat.le_of_ble_eq_true rfl)) (kk_I fun i5 h4 hg => ?_) (fun _ _ _ hx => hx.elim)
  replace hf := hg
  clear hg
  refine v_if_ne 12 dX2_key_5 (by decide) (fun c6 => ?_) (fun c6 => ?_)
  · replace hf := hf.1 c6
    refine v_iload_n (i := 2) dX2_key_12 rfl rfl ?_
    refine V.addK0 ?_
    refine V.addN0 ?_
    refine v_callS (mc := 0) (ms := 0) 1 dX2_key_13 (m_X2_isColour hG hf) rfl (lw_S q2587 q2588 q98 q2589) rfl (by decide +kernel) (by decide) rfl (cat_len (Nat.le_of_ble_eq_true rfl)) (kk_I fun i8 h7 hg => ?_) (fun _ _ _ hx => hx.elim)
    replace hf := hg
    clear hg
    refine v_if_ne 23 dX2_key_16 (by decide) (fun c9 => ?_) (fun c9 => ?_)
    · replace hf := hf.1 c9
      refine v_bipush (v := 10) dX2_key_23 (by decide) ?_
      refine v_iconst (v := 4) dX2_key_25 (by decide) ?_
      refine v_iload_n (i := 1) dX2_key_26 rfl rfl ?_
      refine v_imul dX2_key_27 ?_
      refine v_iadd dX2_key_28 ?_
      refine v_iconst (v := 1) dX2_key_29 (by decide) ?_
      refine v_iadd dX2_key_30 ?_
      refine v_iload_n (i := 2) dX2_key_31 rfl rfl ?_
      refine v_iadd dX2_key_32 ?_
      refine v_istore_n (i := 3) (lv' := [(0, va_rf (some a0)), (1, .int i_1), (2, .int i_2), (3, .int ((((10 : Int32) + ((4 : Int32) * i_1)) + (1 : Int32)) + i_2))]) dX2_key_33 rfl (Nat.le_of_ble_eq_true rfl) rfl rfl ?_
      refine v_qload_n (r := (some a0)) (i := 0) dX2_key_34 rfl rfl ?_
      replace hf := gR_e hf
      obtain ⟨w11, fs12, r10, hh13, hk14, hf⟩ := hf
      refine v_getf (T := TX2) (ci := 2) 0 dX2_key_35 q2488 rfl in_X2 (Nat.le_of_ble_eq_true rfl) (Or.inl rfl) hh13 hk14 ?_
      refine v_iload_n (i := 3) dX2_key_38 rfl rfl ?_
      obtain ⟨a15, rfl⟩ := aI_s hf
      replace hf := aI_e hf
      obtain ⟨w16, N17, f18, hh19, hi20, i21, ei21, hf⟩ := hf
      refine v_iald dX2_key_39 hh19 hi20 ?_
      rw [← ei21]
      refine v_bipush (v := 9) dX2_key_40 (by decide) ?_
      refine v_icmp_ne 54 dX2_key_42 (by decide) (fun c22 => ?_) (fun c22 => ?_)
      · replace hf := hf.1 c22
        refine v_qload_n (r := (some a0)) (i := 0) dX2_key_54 rfl rfl ?_
        refine v_qload_n (r := (some a0)) (i := 0) dX2_key_55 rfl rfl ?_
        replace hf := gR_e hf
        obtain ⟨w24, fs25, r23, hh26, hk27, hf⟩ := hf
        refine v_getf (T := TX2) (ci := 2) 0 dX2_key_56 q2488 rfl in_X2 (Nat.le_of_ble_eq_true rfl) (Or.inl rfl) hh26 hk27 ?_
        replace hf := rv_e hf
        obtain ⟨w28, fs29, hh30, hf⟩ := hf
        obtain ⟨mc32, ms33, hkmc32, hnms33, hM⟩ := hf
        refine V.weak (k' := ((k - mc32) + 0) + mc32) (n' := ((n - ms33) + 0) + ms33) ?_ (by omega) (by omega)
        refine v_callV 1 dX2_key_59 hM rfl hh30 rfl (lw_V q2554 q2556 qs48 q98 q2557) rfl (by decide +kernel) (by decide) rfl (cat_len (Nat.le_of_ble_eq_true rfl)) (kk_V fun h31 hg => ?_) (fun _ _ _ hx => hx.elim)
        have hf := hg
        clear hg
        refine v_qload_n (r := (some a0)) (i := 0) dX2_key_62 rfl rfl ?_
        replace hf := gR_e hf
        obtain ⟨w37, fs38, r36, hh39, hk40, hf⟩ := hf
        refine v_getf (T := TX2) (ci := 2) 0 dX2_key_63 q2488 rfl in_X2 (Nat.le_of_ble_eq_true rfl) (Or.inl rfl) hh39 hk40 ?_
        refine v_iload_n (i := 3) dX2_key_66 rfl rfl ?_
        refine v_dup2 dX2_key_67 rfl (rf_cat _) ?_
        obtain ⟨a41, rfl⟩ := aI_s hf
        replace hf := aI_e hf
        obtain ⟨w42, N43, f44, hh45, hi46, i47, ei47, hf⟩ := hf
        refine v_iald dX2_key_68 hh45 hi46 ?_
        rw [← ei47]
        refine v_iconst (v := 1) dX2_key_69 (by decide) ?_
        refine v_iadd dX2_key_70 ?_
        replace hf := sI_e hf
        obtain ⟨N48, f49, hh50, hi51, hf⟩ := hf
        refine v_iast dX2_key_71 hh50 hi51 ?_
        obtain ⟨h52, eh52⟩ : ∃ z, z = hs h31 a41 (true, .inl (0, N48, .inl (upd f49 ((((10 : Int32) + ((4 : Int32) * i_1)) + (1 : Int32)) + i_2).toNatClampNeg (i47 + (1 : Int32))))) := ⟨_, rfl⟩
        try rw [← eh52] at hf
        rw [← eh52]
        refine v_qload_n (r := (some a0)) (i := 0) dX2_key_72 rfl rfl ?_
        replace hf := gR_e hf
        obtain ⟨w54, fs55, r53, hh56, hk57, hf⟩ := hf
        refine v_getf (T := TX2) (ci := 2) 0 dX2_key_73 q2488 rfl in_X2 (Nat.le_of_ble_eq_true rfl) (Or.inl rfl) hh56 hk57 ?_
        refine v_bipush (v := 7) dX2_key_76 (by decide) ?_
        refine v_dup2 dX2_key_78 rfl (rf_cat _) ?_
        obtain ⟨a58, rfl⟩ := aI_s hf
        replace hf := aI_e hf
        obtain ⟨w59, N60, f61, hh62, hi63, i64, ei64, hf⟩ := hf
        refine v_iald dX2_key_79 hh62 hi63 ?_
        rw [← ei64]
        refine v_iconst (v := 1) dX2_key_80 (by decide) ?_
        refine v_iadd dX2_key_81 ?_
        replace hf := sI_e hf
        obtain ⟨N65, f66, hh67, hi68, hf⟩ := hf
        refine v_iast dX2_key_82 hh67 hi68 ?_
        obtain ⟨h69, eh69⟩ : ∃ z, z = hs h52 a58 (true, .inl (0, N65, .inl (upd f66 ((7 : Int32)).toNatClampNeg (i64 + (1 : Int32))))) := ⟨_, rfl⟩
        try rw [← eh69] at hf
        rw [← eh69]
        refine v_qload_n (r := (some a0)) (i := 0) dX2_key_83 rfl rfl ?_
        replace hf := gR_e hf
        obtain ⟨w71, fs72, r70, hh73, hk74, hf⟩ := hf
        refine v_getf (T := TX2) (ci := 2) 0 dX2_key_84 q2488 rfl in_X2 (Nat.le_of_ble_eq_true rfl) (Or.inl rfl) hh73 hk74 ?_
        refine v_iload_n (i := 3) dX2_key_87 rfl rfl ?_
        obtain ⟨a75, rfl⟩ := aI_s hf
        replace hf := aI_e hf
        obtain ⟨w76, N77, f78, hh79, hi80, i81, ei81, hf⟩ := hf
        refine v_iald dX2_key_88 hh79 hi80 ?_
        rw [← ei81]
        exact v_iret dX2_key_89 rfl ⟨_, rfl, hf⟩
      · replace hf := hf.2 c22
        refine v_qload_n (r := (some a0)) (i := 0) dX2_key_45 rfl rfl ?_
        refine v_bipush (v := 10) dX2_key_46 (by decide) ?_
        refine v_bipush (v := 10) dX2_key_48 (by decide) ?_
        replace hf := rv_e hf
        obtain ⟨w82, fs83, hh84, hf⟩ := hf
        refine V.addK0 ?_
        refine V.addN0 ?_
        refine v_callV (mc := 0) (ms := 0) 2 dX2_key_50 (m_X2_refuses hG hf) rfl hh84 rfl (lw_V q2550 q2552 qs47 q98 q2553) rfl (by decide +kernel) (by decide) rfl (cat_len (Nat.le_of_ble_eq_true rfl)) (kk_I fun i86 h85 hg => ?_) (fun _ _ _ hx => hx.elim)
        replace hf := hg
        clear hg
        exact v_iret dX2_key_53 rfl ⟨_, rfl, hf⟩
    · replace hf := hf.2 c9
      refine v_sipush (v := -1012) dX2_key_19 (by decide) ?_
      exact v_iret dX2_key_22 rfl ⟨_, rfl, hf⟩
  · replace hf := hf.2 c6
    refine v_sipush (v := -1011) dX2_key_8 (by decide) ?_
    exact v_iret dX2_key_11 rfl ⟨_, rfl, hf⟩
abbrev Y_X2_oilOf : Yt := (yX2_oilOf, some (.int), 1, 40, [])
def f_X2_oilOf (G : Gt) (h : Hp) (t_0 : Option Nat) (i_1 : Int32) (K : Int32 → Hp → Prop) : Prop :=
gR h t_0 2 0 fun r1 =>
aI h r1 0 ((10 : Int32) + ((4 : Int32) * i_1)) fun i12 =>
K i12 h
theorem m_X2_oilOf {G : Gt} {h : Hp} {a0 : Nat} {i_1 : Int32} {K : Int32 → Hp → Prop} (hG : Base G) (hf : f_X2_oilOf G h (some a0) i_1 K) : MM G Y_X2_oilOf cX2_oilOf 2 0 0 [.ref a0, .int i_1] h (kI K) xN := by
  refine mm_of hG (by decide +kernel) rfl (ac_c rfl (ac_c rfl ac_nil)) (Nat.le_of_ble_eq_true rfl) (fun E _ _ => ?_)
  show V G E Y_X2_oilOf cX2_oilOf 2 (QM G E (kI K) xN) h 0 0 0 [(0, .ref a0), (1, .int i_1)] []
  unfold f_X2_oilOf at hf
  refine v_qload_n (r := (some a0)) (i := 0) dX2_oilOf_0 rfl rfl ?_
  replace hf := gR_e hf
  obtain ⟨w2, fs3, r1, hh4, hk5, hf⟩ := hf
  refine v_getf (T := TX2) (ci := 2) 0 dX2_oilOf_1 q2488 rfl in_X2 (Nat.le_of_ble_eq_true rfl) (Or.inl rfl) hh4 hk5 ?_
  refine v_bipush (v := 10) dX2_oilOf_4 (by decide) ?_
  refine v_iconst (v := 4) dX2_oilOf_6 (by decide) ?_
  refine v_iload_n (i := 1) dX2_oilOf_7 rfl rfl ?_
  refine v_imul dX2_oilOf_8 ?_
  refine v_iadd dX2_oilOf_9 ?_
  obtain ⟨a6, rfl⟩ := aI_s hf
  replace hf := aI_e hf
  obtain ⟨w7, N8, f9, hh10, hi11, i12, ei12, hf⟩ := hf
  refine v_iald dX2_oilOf_10 hh10 hi11 ?_
  rw [← ei12]
  exact v_iret dX2_oilOf_11 rfl ⟨_, rfl, hf⟩
abbrev Y_X2_oil : Yt := (yX2_oil, some (.int), 3, 86, [])
def f_X2_oil (G : Gt) (h : Hp) (k n : Nat) (t_0 : Option Nat) (i_1 : Int32) (i_2 : Int32) (K : Int32 → Hp → Prop) : Prop :=
rv h t_0 2 (f_X2_isRoom G h t_0 i_1 (fun i5 h4 =>
((¬ (i5 = 0) → f_X2_in G h4 i_2 (1 : Int32) (50 : Int32) (fun i8 h7 =>
((¬ (i8 = 0) → rv h7 t_0 2 (f_X2_oilOf G h7 t_0 i_1 (fun i14 h13 =>
((i14 + i_2 ≤ (50 : Int32) → gR h13 t_0 2 0 fun r16 =>
rv h13 t_0 2 (dV G Y_X2_keeps cX2_keeps 3 [va_rf t_0, va_rf r16] h13 k n (fun h24 k27 n28 =>
gR h24 t_0 2 0 fun r29 =>
aI h24 r29 0 ((10 : Int32) + ((4 : Int32) * i_1)) fun i40 =>
sI h24 r29 ((10 : Int32) + ((4 : Int32) * i_1)) (i40 + i_2) fun h45 =>
rv h45 t_0 2 (f_X2_oilOf G h45 t_0 i_1 (fun i50 h49 =>
K i50 h49))) xN)) ∧
(¬ (i14 + i_2 ≤ (50 : Int32)) → rv h13 t_0 2 (f_X2_oilOf G h13 t_0 i_1 (fun i55 h54 =>
rv h54 t_0 2 (f_X2_refuses G h54 t_0 (10 : Int32) (i55 + i_2) (fun i60 h59 =>
K i60 h59))))))))) ∧
(i8 = 0 → K (-1012 : Int32) h7)))) ∧
(i5 = 0 → K (-1011 : Int32) h4))))
theorem m_X2_oil {G : Gt} {h : Hp} {mc ms : Nat} {a0 : Nat} {i_1 : Int32} {i_2 : Int32} {K : Int32 → Hp → Prop} (hG : Base G) (hA : 0 ≤ mc) (hB : 0 ≤ ms) (hf : f_X2_oil G h (mc - 0) (ms - 0) (some a0) i_1 i_2 K) : MM G Y_X2_oil cX2_oil 3 mc ms [.ref a0, .int i_1, .int i_2] h (kI K) xN := by
  refine mm_of hG (by decide +kernel) rfl (ac_c rfl (ac_c rfl (ac_c rfl ac_nil))) (Nat.le_of_ble_eq_true rfl) (fun E _ _ => ?_)
  obtain ⟨k, hk9⟩ : ∃ z, z = mc - 0 := ⟨_, rfl⟩
  obtain ⟨n, hn9⟩ : ∃ z, z = ms - 0 := ⟨_, rfl⟩
  rw [← hk9, ← hn9] at hf
  refine V.weak (k' := k + 0) (n' := n + 0) ?_ (by omega) (by omega)
  show V G E Y_X2_oil cX2_oil 3 (QM G E (kI K) xN) h (k + 0) (n + 0) 0 [(0, .ref a0), (1, .int i_1), (2, .int i_2)] []
  unfold f_X2_oil at hf
  refine v_qload_n (r := (some a0)) (i := 0) dX2_oil_0 rfl rfl ?_
  refine v_iload_n (i := 1) dX2_oil_1 rfl rfl ?_
  replace hf := rv_e hf
  obtain ⟨w1, fs2, hh3, hf⟩ := hf
  refine V.addK0 ?_
  refine V.addN0 ?_
  refine v_callV (mc := 0) (ms := 0) 1 dX2_oil_2 (m_X2_isRoom hG hf) rfl hh3 rfl (lw_V q2565 q2567 qs49 q98 q2568) rfl (by decide +kernel) (by decide) rfl (cat_len (Nat.le_of_ble_eq_true rfl)) (kk_I fun i5 h4 hg => ?_) (fun _ _ _ hx => hx.elim)
  replace hf := hg
  clear hg
  refine v_if_ne 12 dX2_oil_5 (by decide) (fun c6 => ?_) (fun c6 => ?_)
  · replace hf := hf.1 c6
    refine v_iload_n (i := 2) dX2_oil_12 rfl rfl ?_
    refine v_iconst (v := 1) dX2_oil_13 (by decide) ?_
    refine v_bipush (v := 50) dX2_oil_14 (by decide) ?_
    refine V.addK0 ?_
    refine V.addN0 ?_
    refine v_callS (mc := 0) (ms := 0) 3 dX2_oil_16 (m_X2_in hG hf) rfl (lw_S q2547 q2548 q98 q2549) rfl (by decide +kernel) (by decide) rfl (cat_len (Nat.le_of_ble_eq_true rfl)) (kk_I fun i8 h7 hg => ?_) (fun _ _ _ hx => hx.elim)
    replace hf := hg
    clear hg
    refine v_if_ne 26 dX2_oil_19 (by decide) (fun c9 => ?_) (fun c9 => ?_)
    · replace hf := hf.1 c9
      refine v_qload_n (r := (some a0)) (i := 0) dX2_oil_26 rfl rfl ?_
      refine v_iload_n (i := 1) dX2_oil_27 rfl rfl ?_
      replace hf := rv_e hf
      obtain ⟨w10, fs11, hh12, hf⟩ := hf
      refine V.addK0 ?_
      refine V.addN0 ?_
      refine v_callV (mc := 0) (ms := 0) 1 dX2_oil_28 (m_X2_oilOf hG hf) rfl hh12 rfl (lw_V q2594 q2596 qs52 q98 q2597) rfl (by decide +kernel) (by decide) rfl (cat_len (Nat.le_of_ble_eq_true rfl)) (kk_I fun i14 h13 hg => ?_) (fun _ _ _ hx => hx.elim)
      replace hf := hg
      clear hg
      refine v_iload_n (i := 2) dX2_oil_31 rfl rfl ?_
      refine v_iadd dX2_oil_32 ?_
      refine v_bipush (v := 50) dX2_oil_33 (by decide) ?_
      refine v_icmp_le 52 dX2_oil_35 (by decide) (fun c15 => ?_) (fun c15 => ?_)
      · replace hf := hf.1 c15
        refine v_qload_n (r := (some a0)) (i := 0) dX2_oil_52 rfl rfl ?_
        refine v_qload_n (r := (some a0)) (i := 0) dX2_oil_53 rfl rfl ?_
        replace hf := gR_e hf
        obtain ⟨w17, fs18, r16, hh19, hk20, hf⟩ := hf
        refine v_getf (T := TX2) (ci := 2) 0 dX2_oil_54 q2488 rfl in_X2 (Nat.le_of_ble_eq_true rfl) (Or.inl rfl) hh19 hk20 ?_
        replace hf := rv_e hf
        obtain ⟨w21, fs22, hh23, hf⟩ := hf
        obtain ⟨mc25, ms26, hkmc25, hnms26, hM⟩ := hf
        refine V.weak (k' := ((k - mc25) + 0) + mc25) (n' := ((n - ms26) + 0) + ms26) ?_ (by omega) (by omega)
        refine v_callV 1 dX2_oil_57 hM rfl hh23 rfl (lw_V q2554 q2556 qs48 q98 q2557) rfl (by decide +kernel) (by decide) rfl (cat_len (Nat.le_of_ble_eq_true rfl)) (kk_V fun h24 hg => ?_) (fun _ _ _ hx => hx.elim)
        have hf := hg
        clear hg
        refine v_qload_n (r := (some a0)) (i := 0) dX2_oil_60 rfl rfl ?_
        replace hf := gR_e hf
        obtain ⟨w30, fs31, r29, hh32, hk33, hf⟩ := hf
        refine v_getf (T := TX2) (ci := 2) 0 dX2_oil_61 q2488 rfl in_X2 (Nat.le_of_ble_eq_true rfl) (Or.inl rfl) hh32 hk33 ?_
        refine v_bipush (v := 10) dX2_oil_64 (by decide) ?_
        refine v_iconst (v := 4) dX2_oil_66 (by decide) ?_
        refine v_iload_n (i := 1) dX2_oil_67 rfl rfl ?_
        refine v_imul dX2_oil_68 ?_
        refine v_iadd dX2_oil_69 ?_
        refine v_dup2 dX2_oil_70 rfl (rf_cat _) ?_
        obtain ⟨a34, rfl⟩ := aI_s hf
        replace hf := aI_e hf
        obtain ⟨w35, N36, f37, hh38, hi39, i40, ei40, hf⟩ := hf
        refine v_iald dX2_oil_71 hh38 hi39 ?_
        rw [← ei40]
        refine v_iload_n (i := 2) dX2_oil_72 rfl rfl ?_
        refine v_iadd dX2_oil_73 ?_
        replace hf := sI_e hf
        obtain ⟨N41, f42, hh43, hi44, hf⟩ := hf
        refine v_iast dX2_oil_74 hh43 hi44 ?_
        obtain ⟨h45, eh45⟩ : ∃ z, z = hs h24 a34 (true, .inl (0, N41, .inl (upd f42 ((10 : Int32) + ((4 : Int32) * i_1)).toNatClampNeg (i40 + i_2)))) := ⟨_, rfl⟩
        try rw [← eh45] at hf
        rw [← eh45]
        refine v_qload_n (r := (some a0)) (i := 0) dX2_oil_75 rfl rfl ?_
        refine v_iload_n (i := 1) dX2_oil_76 rfl rfl ?_
        replace hf := rv_e hf
        obtain ⟨w46, fs47, hh48, hf⟩ := hf
        refine V.addK0 ?_
        refine V.addN0 ?_
        refine v_callV (mc := 0) (ms := 0) 1 dX2_oil_77 (m_X2_oilOf hG hf) rfl hh48 rfl (lw_V q2594 q2596 qs52 q98 q2597) rfl (by decide +kernel) (by decide) rfl (cat_len (Nat.le_of_ble_eq_true rfl)) (kk_I fun i50 h49 hg => ?_) (fun _ _ _ hx => hx.elim)
        replace hf := hg
        clear hg
        exact v_iret dX2_oil_80 rfl ⟨_, rfl, hf⟩
      · replace hf := hf.2 c15
        refine v_qload_n (r := (some a0)) (i := 0) dX2_oil_38 rfl rfl ?_
        refine v_bipush (v := 10) dX2_oil_39 (by decide) ?_
        refine v_qload_n (r := (some a0)) (i := 0) dX2_oil_41 rfl rfl ?_
        refine v_iload_n (i := 1) dX2_oil_42 rfl rfl ?_
        replace hf := rv_e hf
        obtain ⟨w51, fs52, hh53, hf⟩ := hf
        refine V.addK0 ?_
        refine V.addN0 ?_
        refine v_callV (mc := 0) (ms := 0) 1 dX2_oil_43 (m_X2_oilOf hG hf) rfl hh53 rfl (lw_V q2594 q2596 qs52 q98 q2597) rfl (by decide +kernel) (by decide) rfl (cat_len (Nat.le_of_ble_eq_true rfl)) (kk_I fun i55 h54 hg => ?_) (fun _ _ _ hx => hx.elim)
        replace hf := hg
        clear hg
        refine v_iload_n (i := 2) dX2_oil_46 rfl rfl ?_
        refine v_iadd dX2_oil_47 ?_
        replace hf := rv_e hf
        obtain ⟨w56, fs57, hh58, hf⟩ := hf
        refine V.addK0 ?_
        refine V.addN0 ?_
        refine v_callV (mc := 0) (ms := 0) 2 dX2_oil_48 (m_X2_refuses hG hf) rfl hh58 rfl (lw_V q2550 q2552 qs47 q98 q2553) rfl (by decide +kernel) (by decide) rfl (cat_len (Nat.le_of_ble_eq_true rfl)) (kk_I fun i60 h59 hg => ?_) (fun _ _ _ hx => hx.elim)
        replace hf := hg
        clear hg
        exact v_iret dX2_oil_51 rfl ⟨_, rfl, hf⟩
    · replace hf := hf.2 c9
      refine v_sipush (v := -1012) dX2_oil_22 (by decide) ?_
      exact v_iret dX2_oil_25 rfl ⟨_, rfl, hf⟩
  · replace hf := hf.2 c6
    refine v_sipush (v := -1011) dX2_oil_8 (by decide) ?_
    exact v_iret dX2_oil_11 rfl ⟨_, rfl, hf⟩
abbrev Y_X2_isDoor : Yt := (yX2_isDoor, some (.boolean), 2, 62, [])
def f_X2_isDoor (G : Gt) (h : Hp) (t_0 : Option Nat) (i_1 : Int32) (K : Int32 → Hp → Prop) : Prop :=
gR h t_0 2 0 fun r1 =>
aI h r1 0 (1 : Int32) fun i12 =>
f_X2_in G h i_1 (0 : Int32) (i12 - (1 : Int32)) (fun i14 h13 =>
(narrow .boolean (.int i14) = .int i14 ∧ K i14 h13))
theorem m_X2_isDoor {G : Gt} {h : Hp} {a0 : Nat} {i_1 : Int32} {K : Int32 → Hp → Prop} (hG : Base G) (hf : f_X2_isDoor G h (some a0) i_1 K) : MM G Y_X2_isDoor cX2_isDoor 2 0 0 [.ref a0, .int i_1] h (kI K) xN := by
  refine mm_of hG (by decide +kernel) rfl (ac_c rfl (ac_c rfl ac_nil)) (Nat.le_of_ble_eq_true rfl) (fun E _ _ => ?_)
  show V G E Y_X2_isDoor cX2_isDoor 2 (QM G E (kI K) xN) h 0 0 0 [(0, .ref a0), (1, .int i_1)] []
  unfold f_X2_isDoor at hf
  refine v_iload_n (i := 1) dX2_isDoor_0 rfl rfl ?_
  refine v_iconst (v := 0) dX2_isDoor_1 (by decide) ?_
  refine v_qload_n (r := (some a0)) (i := 0) dX2_isDoor_2 rfl rfl ?_
  replace hf := gR_e hf
  obtain ⟨w2, fs3, r1, hh4, hk5, hf⟩ := hf
  refine v_getf (T := TX2) (ci := 2) 0 dX2_isDoor_3 q2488 rfl in_X2 (Nat.le_of_ble_eq_true rfl) (Or.inl rfl) hh4 hk5 ?_
  refine v_iconst (v := 1) dX2_isDoor_6 (by decide) ?_
  obtain ⟨a6, rfl⟩ := aI_s hf
  replace hf := aI_e hf
  obtain ⟨w7, N8, f9, hh10, hi11, i12, ei12, hf⟩ := hf
  refine v_iald dX2_isDoor_7 hh10 hi11 ?_
  rw [← ei12]
  refine v_iconst (v := 1) dX2_isDoor_8 (by decide) ?_
  refine v_isub dX2_isDoor_9 ?_
  refine V.addK0 ?_
  refine V.addN0 ?_
  refine v_callS (mc := 0) (ms := 0) 3 dX2_isDoor_10 (m_X2_in hG hf) rfl (lw_S q2547 q2548 q98 q2549) rfl (by decide +kernel) (by decide) rfl (cat_len (Nat.le_of_ble_eq_true rfl)) (kk_I fun i14 h13 hg => ?_) (fun _ _ _ hx => hx.elim)
  replace hf := hg
  clear hg
  exact v_zret dX2_isDoor_13 rfl hf.1 ⟨_, rfl, hf.2⟩
abbrev Y_X2_isAt : Yt := (yX2_isAt, some (.boolean), 2, 62, [])
def f_X2_isAt (G : Gt) (h : Hp) (t_0 : Option Nat) (i_1 : Int32) (i_2 : Int32) (K : Int32 → Hp → Prop) : Prop :=
rv h t_0 2 (f_X2_of G h t_0 i_2 (0 : Int32) (fun i5 h4 =>
((i5 = i_1 → K (1 : Int32) h4) ∧
(¬ (i5 = i_1) → rv h4 t_0 2 (f_X2_of G h4 t_0 i_2 (1 : Int32) (fun i11 h10 =>
((¬ (i11 = i_1) → K (0 : Int32) h10) ∧
(i11 = i_1 → K (1 : Int32) h10))))))))
theorem m_X2_isAt {G : Gt} {h : Hp} {a0 : Nat} {i_1 : Int32} {i_2 : Int32} {K : Int32 → Hp → Prop} (hG : Base G) (hf : f_X2_isAt G h (some a0) i_1 i_2 K) : MM G Y_X2_isAt cX2_isAt 3 0 0 [.ref a0, .int i_1, .int i_2] h (kI K) xN := by
  refine mm_of hG (by decide +kernel) rfl (ac_c rfl (ac_c rfl (ac_c rfl ac_nil))) (Nat.le_of_ble_eq_true rfl) (fun E _ _ => ?_)
  show V G E Y_X2_isAt cX2_isAt 3 (QM G E (kI K) xN) h 0 0 0 [(0, .ref a0), (1, .int i_1), (2, .int i_2)] []
  unfold f_X2_isAt at hf
  refine v_qload_n (r := (some a0)) (i := 0) dX2_isAt_0 rfl rfl ?_
  refine v_iload_n (i := 2) dX2_isAt_1 rfl rfl ?_
  refine v_iconst (v := 0) dX2_isAt_2 (by decide) ?_
  replace hf := rv_e hf
  obtain ⟨w1, fs2, hh3, hf⟩ := hf
  refine V.addK0 ?_
  refine V.addN0 ?_
  refine v_callV (mc := 0) (ms := 0) 2 dX2_isAt_3 (m_X2_of hG hf) rfl hh3 rfl (lw_V q2573 q2575 qs51 q98 q2576) rfl (by decide +kernel) (by decide) rfl (cat_len (Nat.le_of_ble_eq_true rfl)) (kk_I fun i5 h4 hg => ?_) (fun _ _ _ hx => hx.elim)
  replace hf := hg
  clear hg
  refine v_iload_n (i := 1) dX2_isAt_6 rfl rfl ?_
  refine v_icmp_eq 20 dX2_isAt_7 (by decide) (fun c6 => ?_) (fun c6 => ?_)
  · replace hf := hf.1 c6
    refine v_iconst (v := 1) dX2_isAt_20 (by decide) ?_
    refine v_goto 25 dX2_isAt_21 (by decide) ?_
    exact v_zret dX2_isAt_25 rfl (by decide) ⟨_, rfl, hf⟩
  · replace hf := hf.2 c6
    refine v_qload_n (r := (some a0)) (i := 0) dX2_isAt_10 rfl rfl ?_
    refine v_iload_n (i := 2) dX2_isAt_11 rfl rfl ?_
    refine v_iconst (v := 1) dX2_isAt_12 (by decide) ?_
    replace hf := rv_e hf
    obtain ⟨w7, fs8, hh9, hf⟩ := hf
    refine V.addK0 ?_
    refine V.addN0 ?_
    refine v_callV (mc := 0) (ms := 0) 2 dX2_isAt_13 (m_X2_of hG hf) rfl hh9 rfl (lw_V q2573 q2575 qs51 q98 q2576) rfl (by decide +kernel) (by decide) rfl (cat_len (Nat.le_of_ble_eq_true rfl)) (kk_I fun i11 h10 hg => ?_) (fun _ _ _ hx => hx.elim)
    replace hf := hg
    clear hg
    refine v_iload_n (i := 1) dX2_isAt_16 rfl rfl ?_
    refine v_icmp_ne 24 dX2_isAt_17 (by decide) (fun c12 => ?_) (fun c12 => ?_)
    · replace hf := hf.1 c12
      refine v_iconst (v := 0) dX2_isAt_24 (by decide) ?_
      exact v_zret dX2_isAt_25 rfl (by decide) ⟨_, rfl, hf⟩
    · replace hf := hf.2 c12
      refine v_iconst (v := 1) dX2_isAt_20 (by decide) ?_
      refine v_goto 25 dX2_isAt_21 (by decide) ?_
      exact v_zret dX2_isAt_25 rfl (by decide) ⟨_, rfl, hf⟩
abbrev Y_X2_needs : Yt := (yX2_needs, some (.int), 2, 61, [])
def f_X2_needs (G : Gt) (h : Hp) (t_0 : Option Nat) (i_1 : Int32) (K : Int32 → Hp → Prop) : Prop :=
rv h t_0 2 (f_X2_oilOf G h t_0 i_1 (fun i5 h4 =>
((i5 ≤ 0 → K (2 : Int32) h4) ∧
(¬ (i5 ≤ 0) → K (1 : Int32) h4))))
theorem m_X2_needs {G : Gt} {h : Hp} {a0 : Nat} {i_1 : Int32} {K : Int32 → Hp → Prop} (hG : Base G) (hf : f_X2_needs G h (some a0) i_1 K) : MM G Y_X2_needs cX2_needs 2 0 0 [.ref a0, .int i_1] h (kI K) xN := by
  refine mm_of hG (by decide +kernel) rfl (ac_c rfl (ac_c rfl ac_nil)) (Nat.le_of_ble_eq_true rfl) (fun E _ _ => ?_)
  show V G E Y_X2_needs cX2_needs 2 (QM G E (kI K) xN) h 0 0 0 [(0, .ref a0), (1, .int i_1)] []
  unfold f_X2_needs at hf
  refine v_qload_n (r := (some a0)) (i := 0) dX2_needs_0 rfl rfl ?_
  refine v_iload_n (i := 1) dX2_needs_1 rfl rfl ?_
  replace hf := rv_e hf
  obtain ⟨w1, fs2, hh3, hf⟩ := hf
  refine V.addK0 ?_
  refine V.addN0 ?_
  refine v_callV (mc := 0) (ms := 0) 1 dX2_needs_2 (m_X2_oilOf hG hf) rfl hh3 rfl (lw_V q2594 q2596 qs52 q98 q2597) rfl (by decide +kernel) (by decide) rfl (cat_len (Nat.le_of_ble_eq_true rfl)) (kk_I fun i5 h4 hg => ?_) (fun _ _ _ hx => hx.elim)
  replace hf := hg
  clear hg
  refine v_if_le 12 dX2_needs_5 (by decide) (fun c6 => ?_) (fun c6 => ?_)
  · replace hf := hf.1 c6
    refine v_iconst (v := 2) dX2_needs_12 (by decide) ?_
    exact v_iret dX2_needs_13 rfl ⟨_, rfl, hf⟩
  · replace hf := hf.2 c6
    refine v_iconst (v := 1) dX2_needs_8 (by decide) ?_
    refine v_goto 13 dX2_needs_9 (by decide) ?_
    exact v_iret dX2_needs_13 rfl ⟨_, rfl, hf⟩
abbrev Y_X2_isFor : Yt := (yX2_isFor, some (.boolean), 2, 62, [])
def f_X2_isFor (G : Gt) (h : Hp) (t_0 : Option Nat) (i_1 : Int32) (i_2 : Int32) (K : Int32 → Hp → Prop) : Prop :=
rv h t_0 2 (f_X2_of G h t_0 i_1 (2 : Int32) (fun i5 h4 =>
((i5 = 0 → K (1 : Int32) h4) ∧
(¬ (i5 = 0) → rv h4 t_0 2 (f_X2_of G h4 t_0 i_1 (2 : Int32) (fun i11 h10 =>
((¬ (i11 = (1 : Int32)) → ((¬ (i_2 - i_2 / (2 : Int32) * (2 : Int32) = (0 : Int32)) → K (0 : Int32) h10) ∧
(i_2 - i_2 / (2 : Int32) * (2 : Int32) = (0 : Int32) → K (1 : Int32) h10))) ∧
(i11 = (1 : Int32) → ((¬ (i_2 - i_2 / (2 : Int32) * (2 : Int32) = (1 : Int32)) → K (0 : Int32) h10) ∧
(i_2 - i_2 / (2 : Int32) * (2 : Int32) = (1 : Int32) → K (1 : Int32) h10))))))))))
theorem m_X2_isFor {G : Gt} {h : Hp} {a0 : Nat} {i_1 : Int32} {i_2 : Int32} {K : Int32 → Hp → Prop} (hG : Base G) (hf : f_X2_isFor G h (some a0) i_1 i_2 K) : MM G Y_X2_isFor cX2_isFor 3 0 0 [.ref a0, .int i_1, .int i_2] h (kI K) xN := by
  refine mm_of hG (by decide +kernel) rfl (ac_c rfl (ac_c rfl (ac_c rfl ac_nil))) (Nat.le_of_ble_eq_true rfl) (fun E _ _ => ?_)
  show V G E Y_X2_isFor cX2_isFor 3 (QM G E (kI K) xN) h 0 0 0 [(0, .ref a0), (1, .int i_1), (2, .int i_2)] []
  unfold f_X2_isFor at hf
  refine v_qload_n (r := (some a0)) (i := 0) dX2_isFor_0 rfl rfl ?_
  refine v_iload_n (i := 1) dX2_isFor_1 rfl rfl ?_
  refine v_iconst (v := 2) dX2_isFor_2 (by decide) ?_
  replace hf := rv_e hf
  obtain ⟨w1, fs2, hh3, hf⟩ := hf
  refine V.addK0 ?_
  refine V.addN0 ?_
  refine v_callV (mc := 0) (ms := 0) 2 dX2_isFor_3 (m_X2_of hG hf) rfl hh3 rfl (lw_V q2573 q2575 qs51 q98 q2576) rfl (by decide +kernel) (by decide) rfl (cat_len (Nat.le_of_ble_eq_true rfl)) (kk_I fun i5 h4 hg => ?_) (fun _ _ _ hx => hx.elim)
  replace hf := hg
  clear hg
  refine v_if_eq 30 dX2_isFor_6 (by decide) (fun c6 => ?_) (fun c6 => ?_)
  · replace hf := hf.1 c6
    refine v_iconst (v := 1) dX2_isFor_30 (by decide) ?_
    refine v_goto 35 dX2_isFor_31 (by decide) ?_
    exact v_zret dX2_isFor_35 rfl (by decide) ⟨_, rfl, hf⟩
  · replace hf := hf.2 c6
    refine v_iload_n (i := 2) dX2_isFor_9 rfl rfl ?_
    refine v_iconst (v := 2) dX2_isFor_10 (by decide) ?_
    refine v_irem dX2_isFor_11 (by decide) ?_
    refine v_qload_n (r := (some a0)) (i := 0) dX2_isFor_12 rfl rfl ?_
    refine v_iload_n (i := 1) dX2_isFor_13 rfl rfl ?_
    refine v_iconst (v := 2) dX2_isFor_14 (by decide) ?_
    replace hf := rv_e hf
    obtain ⟨w7, fs8, hh9, hf⟩ := hf
    refine V.addK0 ?_
    refine V.addN0 ?_
    refine v_callV (mc := 0) (ms := 0) 2 dX2_isFor_15 (m_X2_of hG hf) rfl hh9 rfl (lw_V q2573 q2575 qs51 q98 q2576) rfl (by decide +kernel) (by decide) rfl (cat_len (Nat.le_of_ble_eq_true rfl)) (kk_I fun i11 h10 hg => ?_) (fun _ _ _ hx => hx.elim)
    replace hf := hg
    clear hg
    refine v_iconst (v := 1) dX2_isFor_18 (by decide) ?_
    refine v_icmp_ne 26 dX2_isFor_19 (by decide) (fun c12 => ?_) (fun c12 => ?_)
    · replace hf := hf.1 c12
      refine v_iconst (v := 0) dX2_isFor_26 (by decide) ?_
      refine v_icmp_ne 34 dX2_isFor_27 (by decide) (fun c13 => ?_) (fun c13 => ?_)
      · replace hf := hf.1 c13
        refine v_iconst (v := 0) dX2_isFor_34 (by decide) ?_
        exact v_zret dX2_isFor_35 rfl (by decide) ⟨_, rfl, hf⟩
      · replace hf := hf.2 c13
        refine v_iconst (v := 1) dX2_isFor_30 (by decide) ?_
        refine v_goto 35 dX2_isFor_31 (by decide) ?_
        exact v_zret dX2_isFor_35 rfl (by decide) ⟨_, rfl, hf⟩
    · replace hf := hf.2 c12
      refine v_iconst (v := 1) dX2_isFor_22 (by decide) ?_
      refine v_goto 27 dX2_isFor_23 (by decide) ?_
      refine v_icmp_ne 34 dX2_isFor_27 (by decide) (fun c14 => ?_) (fun c14 => ?_)
      · replace hf := hf.1 c14
        refine v_iconst (v := 0) dX2_isFor_34 (by decide) ?_
        exact v_zret dX2_isFor_35 rfl (by decide) ⟨_, rfl, hf⟩
      · replace hf := hf.2 c14
        refine v_iconst (v := 1) dX2_isFor_30 (by decide) ?_
        refine v_goto 35 dX2_isFor_31 (by decide) ?_
        exact v_zret dX2_isFor_35 rfl (by decide) ⟨_, rfl, hf⟩
abbrev Y_X2_burns : Yt := (yX2_burns, some (.int), 2, 61, [])
def g_X2_burns_0 (G : Gt) (E : Ev) (h : Hp) (k n : Nat) (a0 : Nat) (i_1 : Int32) (K : Int32 → Hp → Prop) : Prop :=
V G E Y_X2_burns cX2_burns 5 (QM G E (kI K) xN) h k n 4 [(0, .ref a0), (1, .int i_1), (2, .int (0 : Int32)), (3, .int (0 : Int32))] []
theorem s_X2_burns_0 {G : Gt} {E : Ev} {h : Hp} {k0 n0 : Nat} {a0 : Nat} {i_1 : Int32} {K : Int32 → Hp → Prop} (hG : Base G) (hA : 0 ≤ k0) (hB : 0 ≤ n0) (hf : g_X2_burns_0 G E h (k0 - 0) (n0 - 0) a0 i_1 K) : V G E Y_X2_burns cX2_burns 5 (QM G E (kI K) xN) h k0 n0 0 [(0, .ref a0), (1, .int i_1)] [] := by
  obtain ⟨k, hk9⟩ : ∃ z, z = k0 - 0 := ⟨_, rfl⟩
  obtain ⟨n, hn9⟩ : ∃ z, z = n0 - 0 := ⟨_, rfl⟩
  rw [← hk9, ← hn9] at hf
  refine V.weak (k' := k + 0) (n' := n + 0) ?_ (by omega) (by omega)
  unfold g_X2_burns_0 at hf
  refine v_iconst (v := 0) dX2_burns_0 (by decide) ?_
  refine v_istore_n (i := 2) (lv' := [(0, .ref a0), (1, .int i_1), (2, .int (0 : Int32))]) dX2_burns_1 rfl (Nat.le_of_ble_eq_true rfl) rfl rfl ?_
  refine v_iconst (v := 0) dX2_burns_2 (by decide) ?_
  refine v_istore_n (i := 3) (lv' := [(0, .ref a0), (1, .int i_1), (2, .int (0 : Int32)), (3, .int (0 : Int32))]) dX2_burns_3 rfl (Nat.le_of_ble_eq_true rfl) rfl rfl ?_
  exact V.weak hf (by omega) (by omega)
def g_X2_burns_4 (G : Gt) (E : Ev) (h : Hp) (k n : Nat) (a0 : Nat) (i_1 : Int32) (i_2 : Int32) (i_3 : Int32) (K : Int32 → Hp → Prop) : Prop :=
gR h (some a0) 2 0 fun r1 =>
aI h r1 0 (0 : Int32) fun i12 =>
((i12 ≤ i_3 → gR h (some a0) 2 0 fun r14 =>
aI h r14 0 (3 : Int32) fun i25 =>
sI h r14 (3 : Int32) (i25 + i_1) fun h30 =>
K i_2 h30) ∧
(¬ (i12 ≤ i_3) → rv h (some a0) 2 (f_X2_oilOf G h (some a0) i_3 (fun i35 h34 =>
gR h34 (some a0) 2 0 fun r36 =>
((i35 ≤ i_1 → sI h34 r36 ((10 : Int32) + ((4 : Int32) * i_3)) (0 : Int32) fun h47 =>
((i35 ≤ 0 → V G E Y_X2_burns cX2_burns 5 (QM G E (kI K) xN) h47 k n 4 [(0, .ref a0), (1, .int i_1), (2, .int (i_2 + (0 : Int32))), (3, .int (i_3 + (1 : Int32)))] []) ∧
(¬ (i35 ≤ 0) → ((i_1 < i35 → V G E Y_X2_burns cX2_burns 5 (QM G E (kI K) xN) h47 k n 4 [(0, .ref a0), (1, .int i_1), (2, .int (i_2 + (0 : Int32))), (3, .int (i_3 + (1 : Int32)))] []) ∧
(¬ (i_1 < i35) → V G E Y_X2_burns cX2_burns 5 (QM G E (kI K) xN) h47 k n 4 [(0, .ref a0), (1, .int i_1), (2, .int (i_2 + (1 : Int32))), (3, .int (i_3 + (1 : Int32)))] []))))) ∧
(¬ (i35 ≤ i_1) → sI h34 r36 ((10 : Int32) + ((4 : Int32) * i_3)) (i35 - i_1) fun h55 =>
((i35 ≤ 0 → V G E Y_X2_burns cX2_burns 5 (QM G E (kI K) xN) h55 k n 4 [(0, .ref a0), (1, .int i_1), (2, .int (i_2 + (0 : Int32))), (3, .int (i_3 + (1 : Int32)))] []) ∧
(¬ (i35 ≤ 0) → ((i_1 < i35 → V G E Y_X2_burns cX2_burns 5 (QM G E (kI K) xN) h55 k n 4 [(0, .ref a0), (1, .int i_1), (2, .int (i_2 + (0 : Int32))), (3, .int (i_3 + (1 : Int32)))] []) ∧
(¬ (i_1 < i35) → V G E Y_X2_burns cX2_burns 5 (QM G E (kI K) xN) h55 k n 4 [(0, .ref a0), (1, .int i_1), (2, .int (i_2 + (1 : Int32))), (3, .int (i_3 + (1 : Int32)))] []))))))))))
theorem s_X2_burns_4 {G : Gt} {E : Ev} {h : Hp} {k0 n0 : Nat} {a0 : Nat} {i_1 : Int32} {i_2 : Int32} {i_3 : Int32} {K : Int32 → Hp → Prop} (hG : Base G) (hA : 0 ≤ k0) (hB : 0 ≤ n0) (hf : g_X2_burns_4 G E h (k0 - 0) (n0 - 0) a0 i_1 i_2 i_3 K) : V G E Y_X2_burns cX2_burns 5 (QM G E (kI K) xN) h k0 n0 4 [(0, .ref a0), (1, .int i_1), (2, .int i_2), (3, .int i_3)] [] := by
  obtain ⟨k, hk9⟩ : ∃ z, z = k0 - 0 := ⟨_, rfl⟩
  obtain ⟨n, hn9⟩ : ∃ z, z = n0 - 0 := ⟨_, rfl⟩
  rw [← hk9, ← hn9] at hf
  refine V.weak (k' := k + 0) (n' := n + 0) ?_ (by omega) (by omega)
  unfold g_X2_burns_4 at hf
  refine v_iload_n (i := 3) dX2_burns_4 rfl rfl ?_
  refine v_aload_n (i := 0) dX2_burns_5 rfl rfl ?_
  replace hf := gR_e hf
  obtain ⟨w2, fs3, r1, hh4, hk5, hf⟩ := hf
  refine v_getf (T := TX2) (ci := 2) 0 dX2_burns_6 q2488 rfl in_X2 (Nat.le_of_ble_eq_true rfl) (Or.inl rfl) hh4 hk5 ?_
  refine v_iconst (v := 0) dX2_burns_9 (by decide) ?_
  obtain ⟨a6, rfl⟩ := aI_s hf
  replace hf := aI_e hf
  obtain ⟨w7, N8, f9, hh10, hi11, i12, ei12, hf⟩ := hf
  refine v_iald dX2_burns_10 hh10 hi11 ?_
  rw [← ei12]
  refine v_icmp_ge 71 dX2_burns_11 (by decide) (fun c13 => ?_) (fun c13 => ?_)
  · replace hf := hf.1 c13
    refine v_aload_n (i := 0) dX2_burns_71 rfl rfl ?_
    replace hf := gR_e hf
    obtain ⟨w15, fs16, r14, hh17, hk18, hf⟩ := hf
    refine v_getf (T := TX2) (ci := 2) 0 dX2_burns_72 q2488 rfl in_X2 (Nat.le_of_ble_eq_true rfl) (Or.inl rfl) hh17 hk18 ?_
    refine v_iconst (v := 3) dX2_burns_75 (by decide) ?_
    refine v_dup2 dX2_burns_76 rfl (rf_cat _) ?_
    obtain ⟨a19, rfl⟩ := aI_s hf
    replace hf := aI_e hf
    obtain ⟨w20, N21, f22, hh23, hi24, i25, ei25, hf⟩ := hf
    refine v_iald dX2_burns_77 hh23 hi24 ?_
    rw [← ei25]
    refine v_iload_n (i := 1) dX2_burns_78 rfl rfl ?_
    refine v_iadd dX2_burns_79 ?_
    replace hf := sI_e hf
    obtain ⟨N26, f27, hh28, hi29, hf⟩ := hf
    refine v_iast dX2_burns_80 hh28 hi29 ?_
    obtain ⟨h30, eh30⟩ : ∃ z, z = hs h a19 (true, .inl (0, N26, .inl (upd f27 ((3 : Int32)).toNatClampNeg (i25 + i_1)))) := ⟨_, rfl⟩
    try rw [← eh30] at hf
    rw [← eh30]
    refine v_iload_n (i := 2) dX2_burns_81 rfl rfl ?_
    exact v_iret dX2_burns_82 rfl ⟨_, rfl, hf⟩
  · replace hf := hf.2 c13
    refine v_aload_n (i := 0) dX2_burns_14 rfl rfl ?_
    refine v_iload_n (i := 3) dX2_burns_15 rfl rfl ?_
    replace hf := rv_e hf
    obtain ⟨w31, fs32, hh33, hf⟩ := hf
    refine V.addK0 ?_
    refine V.addN0 ?_
    refine v_callV (mc := 0) (ms := 0) 1 dX2_burns_16 (m_X2_oilOf hG hf) rfl hh33 rfl (lw_V q2594 q2596 qs52 q98 q2597) rfl (by decide +kernel) (by decide) rfl (cat_len (Nat.le_of_ble_eq_true rfl)) (kk_I fun i35 h34 hg => ?_) (fun _ _ _ hx => hx.elim)
    replace hf := hg
    clear hg
    refine v_istore (i := 4) (lv' := [(0, .ref a0), (1, .int i_1), (2, .int i_2), (3, .int i_3), (4, .int i35)]) dX2_burns_19 (Nat.le_of_ble_eq_true rfl) rfl rfl ?_
    refine v_aload_n (i := 0) dX2_burns_21 rfl rfl ?_
    replace hf := gR_e hf
    obtain ⟨w37, fs38, r36, hh39, hk40, hf⟩ := hf
    refine v_getf (T := TX2) (ci := 2) 0 dX2_burns_22 q2488 rfl in_X2 (Nat.le_of_ble_eq_true rfl) (Or.inl rfl) hh39 hk40 ?_
    refine v_bipush (v := 10) dX2_burns_25 (by decide) ?_
    refine v_iconst (v := 4) dX2_burns_27 (by decide) ?_
    refine v_iload_n (i := 3) dX2_burns_28 rfl rfl ?_
    refine v_imul dX2_burns_29 ?_
    refine v_iadd dX2_burns_30 ?_
    refine v_iload (i := 4) dX2_burns_31 rfl ?_
    refine v_iload_n (i := 1) dX2_burns_33 rfl rfl ?_
    refine v_icmp_le 44 dX2_burns_34 (by decide) (fun c41 => ?_) (fun c41 => ?_)
    · replace hf := hf.1 c41
      refine v_iconst (v := 0) dX2_burns_44 (by decide) ?_
      obtain ⟨a42, rfl⟩ := sI_s hf
      replace hf := sI_e hf
      obtain ⟨N43, f44, hh45, hi46, hf⟩ := hf
      refine v_iast dX2_burns_45 hh45 hi46 ?_
      obtain ⟨h47, eh47⟩ : ∃ z, z = hs h34 a42 (true, .inl (0, N43, .inl (upd f44 ((10 : Int32) + ((4 : Int32) * i_3)).toNatClampNeg ((0 : Int32))))) := ⟨_, rfl⟩
      try rw [← eh47] at hf
      rw [← eh47]
      refine v_iload_n (i := 2) dX2_burns_46 rfl rfl ?_
      refine v_iload (i := 4) dX2_burns_47 rfl ?_
      refine v_if_le 62 dX2_burns_49 (by decide) (fun c48 => ?_) (fun c48 => ?_)
      · replace hf := hf.1 c48
        refine v_iconst (v := 0) dX2_burns_62 (by decide) ?_
        refine v_iadd dX2_burns_63 ?_
        refine v_istore_n (i := 2) (lv' := [(0, .ref a0), (1, .int i_1), (2, .int (i_2 + (0 : Int32))), (3, .int i_3), (4, .int i35)]) dX2_burns_64 rfl (Nat.le_of_ble_eq_true rfl) rfl rfl ?_
        refine v_iinc (i := 3) (v := i_3 + (1 : Int32)) (lv' := [(0, .ref a0), (1, .int i_1), (2, .int (i_2 + (0 : Int32))), (3, .int (i_3 + (1 : Int32))), (4, .int i35)]) dX2_burns_65 rfl rfl (Nat.le_of_ble_eq_true rfl) rfl rfl ?_
        refine v_goto 4 dX2_burns_68 (by decide) ?_
        refine V.lp (lv' := [(0, .ref a0), (1, .int i_1), (2, .int (i_2 + (0 : Int32))), (3, .int (i_3 + (1 : Int32)))]) [0, 1, 2, 3] rfl ?_
        exact V.weak hf (by omega) (by omega)
      · replace hf := hf.2 c48
        refine v_iload (i := 4) dX2_burns_52 rfl ?_
        refine v_iload_n (i := 1) dX2_burns_54 rfl rfl ?_
        refine v_icmp_gt 62 dX2_burns_55 (by decide) (fun c49 => ?_) (fun c49 => ?_)
        · replace hf := hf.1 c49
          refine v_iconst (v := 0) dX2_burns_62 (by decide) ?_
          refine v_iadd dX2_burns_63 ?_
          refine v_istore_n (i := 2) (lv' := [(0, .ref a0), (1, .int i_1), (2, .int (i_2 + (0 : Int32))), (3, .int i_3), (4, .int i35)]) dX2_burns_64 rfl (Nat.le_of_ble_eq_true rfl) rfl rfl ?_
          refine v_iinc (i := 3) (v := i_3 + (1 : Int32)) (lv' := [(0, .ref a0), (1, .int i_1), (2, .int (i_2 + (0 : Int32))), (3, .int (i_3 + (1 : Int32))), (4, .int i35)]) dX2_burns_65 rfl rfl (Nat.le_of_ble_eq_true rfl) rfl rfl ?_
          refine v_goto 4 dX2_burns_68 (by decide) ?_
          refine V.lp (lv' := [(0, .ref a0), (1, .int i_1), (2, .int (i_2 + (0 : Int32))), (3, .int (i_3 + (1 : Int32)))]) [0, 1, 2, 3] rfl ?_
          exact V.weak hf (by omega) (by omega)
        · replace hf := hf.2 c49
          refine v_iconst (v := 1) dX2_burns_58 (by decide) ?_
          refine v_goto 63 dX2_burns_59 (by decide) ?_
          refine v_iadd dX2_burns_63 ?_
          refine v_istore_n (i := 2) (lv' := [(0, .ref a0), (1, .int i_1), (2, .int (i_2 + (1 : Int32))), (3, .int i_3), (4, .int i35)]) dX2_burns_64 rfl (Nat.le_of_ble_eq_true rfl) rfl rfl ?_
          refine v_iinc (i := 3) (v := i_3 + (1 : Int32)) (lv' := [(0, .ref a0), (1, .int i_1), (2, .int (i_2 + (1 : Int32))), (3, .int (i_3 + (1 : Int32))), (4, .int i35)]) dX2_burns_65 rfl rfl (Nat.le_of_ble_eq_true rfl) rfl rfl ?_
          refine v_goto 4 dX2_burns_68 (by decide) ?_
          refine V.lp (lv' := [(0, .ref a0), (1, .int i_1), (2, .int (i_2 + (1 : Int32))), (3, .int (i_3 + (1 : Int32)))]) [0, 1, 2, 3] rfl ?_
          exact V.weak hf (by omega) (by omega)
    · replace hf := hf.2 c41
      refine v_iload (i := 4) dX2_burns_37 rfl ?_
      refine v_iload_n (i := 1) dX2_burns_39 rfl rfl ?_
      refine v_isub dX2_burns_40 ?_
      refine v_goto 45 dX2_burns_41 (by decide) ?_
      obtain ⟨a50, rfl⟩ := sI_s hf
      replace hf := sI_e hf
      obtain ⟨N51, f52, hh53, hi54, hf⟩ := hf
      refine v_iast dX2_burns_45 hh53 hi54 ?_
      obtain ⟨h55, eh55⟩ : ∃ z, z = hs h34 a50 (true, .inl (0, N51, .inl (upd f52 ((10 : Int32) + ((4 : Int32) * i_3)).toNatClampNeg (i35 - i_1)))) := ⟨_, rfl⟩
      try rw [← eh55] at hf
      rw [← eh55]
      refine v_iload_n (i := 2) dX2_burns_46 rfl rfl ?_
      refine v_iload (i := 4) dX2_burns_47 rfl ?_
      refine v_if_le 62 dX2_burns_49 (by decide) (fun c56 => ?_) (fun c56 => ?_)
      · replace hf := hf.1 c56
        refine v_iconst (v := 0) dX2_burns_62 (by decide) ?_
        refine v_iadd dX2_burns_63 ?_
        refine v_istore_n (i := 2) (lv' := [(0, .ref a0), (1, .int i_1), (2, .int (i_2 + (0 : Int32))), (3, .int i_3), (4, .int i35)]) dX2_burns_64 rfl (Nat.le_of_ble_eq_true rfl) rfl rfl ?_
        refine v_iinc (i := 3) (v := i_3 + (1 : Int32)) (lv' := [(0, .ref a0), (1, .int i_1), (2, .int (i_2 + (0 : Int32))), (3, .int (i_3 + (1 : Int32))), (4, .int i35)]) dX2_burns_65 rfl rfl (Nat.le_of_ble_eq_true rfl) rfl rfl ?_
        refine v_goto 4 dX2_burns_68 (by decide) ?_
        refine V.lp (lv' := [(0, .ref a0), (1, .int i_1), (2, .int (i_2 + (0 : Int32))), (3, .int (i_3 + (1 : Int32)))]) [0, 1, 2, 3] rfl ?_
        exact V.weak hf (by omega) (by omega)
      · replace hf := hf.2 c56
        refine v_iload (i := 4) dX2_burns_52 rfl ?_
        refine v_iload_n (i := 1) dX2_burns_54 rfl rfl ?_
        refine v_icmp_gt 62 dX2_burns_55 (by decide) (fun c57 => ?_) (fun c57 => ?_)
        · replace hf := hf.1 c57
          refine v_iconst (v := 0) dX2_burns_62 (by decide) ?_
          refine v_iadd dX2_burns_63 ?_
          refine v_istore_n (i := 2) (lv' := [(0, .ref a0), (1, .int i_1), (2, .int (i_2 + (0 : Int32))), (3, .int i_3), (4, .int i35)]) dX2_burns_64 rfl (Nat.le_of_ble_eq_true rfl) rfl rfl ?_
          refine v_iinc (i := 3) (v := i_3 + (1 : Int32)) (lv' := [(0, .ref a0), (1, .int i_1), (2, .int (i_2 + (0 : Int32))), (3, .int (i_3 + (1 : Int32))), (4, .int i35)]) dX2_burns_65 rfl rfl (Nat.le_of_ble_eq_true rfl) rfl rfl ?_
          refine v_goto 4 dX2_burns_68 (by decide) ?_
          refine V.lp (lv' := [(0, .ref a0), (1, .int i_1), (2, .int (i_2 + (0 : Int32))), (3, .int (i_3 + (1 : Int32)))]) [0, 1, 2, 3] rfl ?_
          exact V.weak hf (by omega) (by omega)
        · replace hf := hf.2 c57
          refine v_iconst (v := 1) dX2_burns_58 (by decide) ?_
          refine v_goto 63 dX2_burns_59 (by decide) ?_
          refine v_iadd dX2_burns_63 ?_
          refine v_istore_n (i := 2) (lv' := [(0, .ref a0), (1, .int i_1), (2, .int (i_2 + (1 : Int32))), (3, .int i_3), (4, .int i35)]) dX2_burns_64 rfl (Nat.le_of_ble_eq_true rfl) rfl rfl ?_
          refine v_iinc (i := 3) (v := i_3 + (1 : Int32)) (lv' := [(0, .ref a0), (1, .int i_1), (2, .int (i_2 + (1 : Int32))), (3, .int (i_3 + (1 : Int32))), (4, .int i35)]) dX2_burns_65 rfl rfl (Nat.le_of_ble_eq_true rfl) rfl rfl ?_
          refine v_goto 4 dX2_burns_68 (by decide) ?_
          refine V.lp (lv' := [(0, .ref a0), (1, .int i_1), (2, .int (i_2 + (1 : Int32))), (3, .int (i_3 + (1 : Int32)))]) [0, 1, 2, 3] rfl ?_
          exact V.weak hf (by omega) (by omega)
theorem b_X2_burns {G : Gt} {h : Hp} {mc ms : Nat} {a0 : Nat} {i_1 : Int32} {K : Int32 → Hp → Prop} (hG : Base G) (hf : ∀ E : Ev, V G E Y_X2_burns cX2_burns 5 (QM G E (kI K) xN) h mc ms 0 [(0, .ref a0), (1, .int i_1)] []) : MM G Y_X2_burns cX2_burns 5 mc ms [.ref a0, .int i_1] h (kI K) xN := mm_of hG (by decide +kernel) rfl (ac_c rfl (ac_c rfl ac_nil)) (Nat.le_of_ble_eq_true rfl) (fun E _ _ => hf E)
abbrev Y_X2_behind : Yt := (yX2_behind, some (.int), 2, 62, [])
def f_X2_behind (G : Gt) (h : Hp) (t_0 : Option Nat) (i_1 : Int32) (i_2 : Int32) (K : Int32 → Hp → Prop) : Prop :=
rv h t_0 2 (f_X2_of G h t_0 i_2 (0 : Int32) (fun i5 h4 =>
((¬ (i5 = i_1) → rv h4 t_0 2 (f_X2_of G h4 t_0 i_2 (0 : Int32) (fun i11 h10 =>
K i11 h10))) ∧
(i5 = i_1 → rv h4 t_0 2 (f_X2_of G h4 t_0 i_2 (1 : Int32) (fun i16 h15 =>
K i16 h15))))))
theorem m_X2_behind {G : Gt} {h : Hp} {a0 : Nat} {i_1 : Int32} {i_2 : Int32} {K : Int32 → Hp → Prop} (hG : Base G) (hf : f_X2_behind G h (some a0) i_1 i_2 K) : MM G Y_X2_behind cX2_behind 3 0 0 [.ref a0, .int i_1, .int i_2] h (kI K) xN := by
  refine mm_of hG (by decide +kernel) rfl (ac_c rfl (ac_c rfl (ac_c rfl ac_nil))) (Nat.le_of_ble_eq_true rfl) (fun E _ _ => ?_)
  show V G E Y_X2_behind cX2_behind 3 (QM G E (kI K) xN) h 0 0 0 [(0, .ref a0), (1, .int i_1), (2, .int i_2)] []
  unfold f_X2_behind at hf
  refine v_qload_n (r := (some a0)) (i := 0) dX2_behind_0 rfl rfl ?_
  refine v_iload_n (i := 2) dX2_behind_1 rfl rfl ?_
  refine v_iconst (v := 0) dX2_behind_2 (by decide) ?_
  replace hf := rv_e hf
  obtain ⟨w1, fs2, hh3, hf⟩ := hf
  refine V.addK0 ?_
  refine V.addN0 ?_
  refine v_callV (mc := 0) (ms := 0) 2 dX2_behind_3 (m_X2_of hG hf) rfl hh3 rfl (lw_V q2573 q2575 qs51 q98 q2576) rfl (by decide +kernel) (by decide) rfl (cat_len (Nat.le_of_ble_eq_true rfl)) (kk_I fun i5 h4 hg => ?_) (fun _ _ _ hx => hx.elim)
  replace hf := hg
  clear hg
  refine v_iload_n (i := 1) dX2_behind_6 rfl rfl ?_
  refine v_icmp_ne 19 dX2_behind_7 (by decide) (fun c6 => ?_) (fun c6 => ?_)
  · replace hf := hf.1 c6
    refine v_qload_n (r := (some a0)) (i := 0) dX2_behind_19 rfl rfl ?_
    refine v_iload_n (i := 2) dX2_behind_20 rfl rfl ?_
    refine v_iconst (v := 0) dX2_behind_21 (by decide) ?_
    replace hf := rv_e hf
    obtain ⟨w7, fs8, hh9, hf⟩ := hf
    refine V.addK0 ?_
    refine V.addN0 ?_
    refine v_callV (mc := 0) (ms := 0) 2 dX2_behind_22 (m_X2_of hG hf) rfl hh9 rfl (lw_V q2573 q2575 qs51 q98 q2576) rfl (by decide +kernel) (by decide) rfl (cat_len (Nat.le_of_ble_eq_true rfl)) (kk_I fun i11 h10 hg => ?_) (fun _ _ _ hx => hx.elim)
    replace hf := hg
    clear hg
    exact v_iret dX2_behind_25 rfl ⟨_, rfl, hf⟩
  · replace hf := hf.2 c6
    refine v_qload_n (r := (some a0)) (i := 0) dX2_behind_10 rfl rfl ?_
    refine v_iload_n (i := 2) dX2_behind_11 rfl rfl ?_
    refine v_iconst (v := 1) dX2_behind_12 (by decide) ?_
    replace hf := rv_e hf
    obtain ⟨w12, fs13, hh14, hf⟩ := hf
    refine V.addK0 ?_
    refine V.addN0 ?_
    refine v_callV (mc := 0) (ms := 0) 2 dX2_behind_13 (m_X2_of hG hf) rfl hh14 rfl (lw_V q2573 q2575 qs51 q98 q2576) rfl (by decide +kernel) (by decide) rfl (cat_len (Nat.le_of_ble_eq_true rfl)) (kk_I fun i16 h15 hg => ?_) (fun _ _ _ hx => hx.elim)
    replace hf := hg
    clear hg
    refine v_goto 25 dX2_behind_16 (by decide) ?_
    exact v_iret dX2_behind_25 rfl ⟨_, rfl, hf⟩
abbrev Y_X2_rest : Yt := (yX2_rest, some (.int), 3, 86, [])
def f_X2_rest (G : Gt) (h : Hp) (k n : Nat) (t_0 : Option Nat) (i_1 : Int32) (K : Int32 → Hp → Prop) : Prop :=
f_X2_in G h i_1 (1 : Int32) (50 : Int32) (fun i2 h1 =>
((¬ (i2 = 0) → gR h1 t_0 2 0 fun r4 =>
aI h1 r4 0 (0 : Int32) fun i15 =>
((¬ (i15 = 0) → gR h1 t_0 2 0 fun r17 =>
rv h1 t_0 2 (dV G Y_X2_keeps cX2_keeps 3 [va_rf t_0, va_rf r17] h1 k n (fun h25 k28 n29 =>
rv h25 t_0 2 (dI G Y_X2_burns cX2_burns 5 [va_rf t_0, .int i_1] h25 k28 n29 (fun i34 h33 k37 n38 =>
K i34 h33) xN)) xN)) ∧
(i15 = 0 → rv h1 t_0 2 (f_X2_refuses G h1 t_0 (11 : Int32) (0 : Int32) (fun i43 h42 =>
K i43 h42))))) ∧
(i2 = 0 → K (-1012 : Int32) h1)))
theorem m_X2_rest {G : Gt} {h : Hp} {mc ms : Nat} {a0 : Nat} {i_1 : Int32} {K : Int32 → Hp → Prop} (hG : Base G) (hA : 0 ≤ mc) (hB : 0 ≤ ms) (hf : f_X2_rest G h (mc - 0) (ms - 0) (some a0) i_1 K) : MM G Y_X2_rest cX2_rest 2 mc ms [.ref a0, .int i_1] h (kI K) xN := by
  refine mm_of hG (by decide +kernel) rfl (ac_c rfl (ac_c rfl ac_nil)) (Nat.le_of_ble_eq_true rfl) (fun E _ _ => ?_)
  obtain ⟨k, hk9⟩ : ∃ z, z = mc - 0 := ⟨_, rfl⟩
  obtain ⟨n, hn9⟩ : ∃ z, z = ms - 0 := ⟨_, rfl⟩
  rw [← hk9, ← hn9] at hf
  refine V.weak (k' := k + 0) (n' := n + 0) ?_ (by omega) (by omega)
  show V G E Y_X2_rest cX2_rest 2 (QM G E (kI K) xN) h (k + 0) (n + 0) 0 [(0, .ref a0), (1, .int i_1)] []
  unfold f_X2_rest at hf
  refine v_iload_n (i := 1) dX2_rest_0 rfl rfl ?_
  refine v_iconst (v := 1) dX2_rest_1 (by decide) ?_
  refine v_bipush (v := 50) dX2_rest_2 (by decide) ?_
  refine V.addK0 ?_
  refine V.addN0 ?_
  refine v_callS (mc := 0) (ms := 0) 3 dX2_rest_4 (m_X2_in hG hf) rfl (lw_S q2547 q2548 q98 q2549) rfl (by decide +kernel) (by decide) rfl (cat_len (Nat.le_of_ble_eq_true rfl)) (kk_I fun i2 h1 hg => ?_) (fun _ _ _ hx => hx.elim)
  replace hf := hg
  clear hg
  refine v_if_ne 14 dX2_rest_7 (by decide) (fun c3 => ?_) (fun c3 => ?_)
  · replace hf := hf.1 c3
    refine v_qload_n (r := (some a0)) (i := 0) dX2_rest_14 rfl rfl ?_
    replace hf := gR_e hf
    obtain ⟨w5, fs6, r4, hh7, hk8, hf⟩ := hf
    refine v_getf (T := TX2) (ci := 2) 0 dX2_rest_15 q2488 rfl in_X2 (Nat.le_of_ble_eq_true rfl) (Or.inl rfl) hh7 hk8 ?_
    refine v_iconst (v := 0) dX2_rest_18 (by decide) ?_
    obtain ⟨a9, rfl⟩ := aI_s hf
    replace hf := aI_e hf
    obtain ⟨w10, N11, f12, hh13, hi14, i15, ei15, hf⟩ := hf
    refine v_iald dX2_rest_19 hh13 hi14 ?_
    rw [← ei15]
    refine v_if_ne 31 dX2_rest_20 (by decide) (fun c16 => ?_) (fun c16 => ?_)
    · replace hf := hf.1 c16
      refine v_qload_n (r := (some a0)) (i := 0) dX2_rest_31 rfl rfl ?_
      refine v_qload_n (r := (some a0)) (i := 0) dX2_rest_32 rfl rfl ?_
      replace hf := gR_e hf
      obtain ⟨w18, fs19, r17, hh20, hk21, hf⟩ := hf
      refine v_getf (T := TX2) (ci := 2) 0 dX2_rest_33 q2488 rfl in_X2 (Nat.le_of_ble_eq_true rfl) (Or.inl rfl) hh20 hk21 ?_
      replace hf := rv_e hf
      obtain ⟨w22, fs23, hh24, hf⟩ := hf
      obtain ⟨mc26, ms27, hkmc26, hnms27, hM⟩ := hf
      refine V.weak (k' := ((k - mc26) + 0) + mc26) (n' := ((n - ms27) + 0) + ms27) ?_ (by omega) (by omega)
      refine v_callV 1 dX2_rest_36 hM rfl hh24 rfl (lw_V q2554 q2556 qs48 q98 q2557) rfl (by decide +kernel) (by decide) rfl (cat_len (Nat.le_of_ble_eq_true rfl)) (kk_V fun h25 hg => ?_) (fun _ _ _ hx => hx.elim)
      have hf := hg
      clear hg
      refine v_qload_n (r := (some a0)) (i := 0) dX2_rest_39 rfl rfl ?_
      refine v_iload_n (i := 1) dX2_rest_40 rfl rfl ?_
      replace hf := rv_e hf
      obtain ⟨w30, fs31, hh32, hf⟩ := hf
      obtain ⟨mc35, ms36, hkmc35, hnms36, hM⟩ := hf
      refine V.weak (k' := (((k - mc26) - mc35) + 0) + mc35) (n' := (((n - ms27) - ms36) + 0) + ms36) ?_ (by omega) (by omega)
      refine v_callV 1 dX2_rest_41 hM rfl hh32 rfl (lw_V q2618 q2620 qs57 q98 q2621) rfl (by decide +kernel) (by decide) rfl (cat_len (Nat.le_of_ble_eq_true rfl)) (kk_I fun i34 h33 hg => ?_) (fun _ _ _ hx => hx.elim)
      have hf := hg
      clear hg
      exact v_iret dX2_rest_44 rfl ⟨_, rfl, hf⟩
    · replace hf := hf.2 c16
      refine v_qload_n (r := (some a0)) (i := 0) dX2_rest_23 rfl rfl ?_
      refine v_bipush (v := 11) dX2_rest_24 (by decide) ?_
      refine v_iconst (v := 0) dX2_rest_26 (by decide) ?_
      replace hf := rv_e hf
      obtain ⟨w39, fs40, hh41, hf⟩ := hf
      refine V.addK0 ?_
      refine V.addN0 ?_
      refine v_callV (mc := 0) (ms := 0) 2 dX2_rest_27 (m_X2_refuses hG hf) rfl hh41 rfl (lw_V q2550 q2552 qs47 q98 q2553) rfl (by decide +kernel) (by decide) rfl (cat_len (Nat.le_of_ble_eq_true rfl)) (kk_I fun i43 h42 hg => ?_) (fun _ _ _ hx => hx.elim)
      replace hf := hg
      clear hg
      exact v_iret dX2_rest_30 rfl ⟨_, rfl, hf⟩
  · replace hf := hf.2 c3
    refine v_sipush (v := -1012) dX2_rest_10 (by decide) ?_
    exact v_iret dX2_rest_13 rfl ⟨_, rfl, hf⟩
abbrev Y_X2_canGo : Yt := (yX2_canGo, some (.int), 3, 84, [])
def g_X2_canGo_0 (G : Gt) (E : Ev) (h : Hp) (k n : Nat) (a0 : Nat) (K : Int32 → Hp → Prop) : Prop :=
V G E Y_X2_canGo cX2_canGo 3 (QM G E (kI K) xN) h k n 4 [(0, .ref a0), (1, .int (0 : Int32)), (2, .int (0 : Int32))] []
theorem s_X2_canGo_0 {G : Gt} {E : Ev} {h : Hp} {k0 n0 : Nat} {a0 : Nat} {K : Int32 → Hp → Prop} (hG : Base G) (hA : 0 ≤ k0) (hB : 0 ≤ n0) (hf : g_X2_canGo_0 G E h (k0 - 0) (n0 - 0) a0 K) : V G E Y_X2_canGo cX2_canGo 3 (QM G E (kI K) xN) h k0 n0 0 [(0, .ref a0)] [] := by
  obtain ⟨k, hk9⟩ : ∃ z, z = k0 - 0 := ⟨_, rfl⟩
  obtain ⟨n, hn9⟩ : ∃ z, z = n0 - 0 := ⟨_, rfl⟩
  rw [← hk9, ← hn9] at hf
  refine V.weak (k' := k + 0) (n' := n + 0) ?_ (by omega) (by omega)
  unfold g_X2_canGo_0 at hf
  refine v_iconst (v := 0) dX2_canGo_0 (by decide) ?_
  refine v_istore_n (i := 1) (lv' := [(0, .ref a0), (1, .int (0 : Int32))]) dX2_canGo_1 rfl (Nat.le_of_ble_eq_true rfl) rfl rfl ?_
  refine v_iconst (v := 0) dX2_canGo_2 (by decide) ?_
  refine v_istore_n (i := 2) (lv' := [(0, .ref a0), (1, .int (0 : Int32)), (2, .int (0 : Int32))]) dX2_canGo_3 rfl (Nat.le_of_ble_eq_true rfl) rfl rfl ?_
  exact V.weak hf (by omega) (by omega)
def g_X2_canGo_4 (G : Gt) (E : Ev) (h : Hp) (k n : Nat) (a0 : Nat) (i_1 : Int32) (i_2 : Int32) (K : Int32 → Hp → Prop) : Prop :=
gR h (some a0) 2 0 fun r1 =>
aI h r1 0 (1 : Int32) fun i12 =>
((i12 ≤ i_2 → K i_1 h) ∧
(¬ (i12 ≤ i_2) → gR h (some a0) 2 0 fun r14 =>
aI h r14 0 (2 : Int32) fun i25 =>
rv h (some a0) 2 (f_X2_isAt G h (some a0) i25 i_2 (fun i30 h29 =>
((i30 = 0 → V G E Y_X2_canGo cX2_canGo 3 (QM G E (kI K) xN) h29 k n 4 [(0, .ref a0), (1, .int (i_1 + (0 : Int32))), (2, .int (i_2 + (1 : Int32)))] []) ∧
(¬ (i30 = 0) → rv h29 (some a0) 2 (f_X2_of G h29 (some a0) i_2 (4 : Int32) (fun i36 h35 =>
((¬ (i36 = 0) → V G E Y_X2_canGo cX2_canGo 3 (QM G E (kI K) xN) h35 k n 4 [(0, .ref a0), (1, .int (i_1 + (0 : Int32))), (2, .int (i_2 + (1 : Int32)))] []) ∧
(i36 = 0 → gR h35 (some a0) 2 0 fun r38 =>
aI h35 r38 0 (3 : Int32) fun i49 =>
gR h35 (some a0) 2 0 fun r50 =>
aI h35 r50 0 (2 : Int32) fun i61 =>
rv h35 (some a0) 2 (f_X2_needs G h35 (some a0) i61 (fun i66 h65 =>
rv h65 (some a0) 2 (f_X2_isFor G h65 (some a0) i_2 (i49 + i66) (fun i71 h70 =>
((i71 = 0 → V G E Y_X2_canGo cX2_canGo 3 (QM G E (kI K) xN) h70 k n 4 [(0, .ref a0), (1, .int (i_1 + (0 : Int32))), (2, .int (i_2 + (1 : Int32)))] []) ∧
(¬ (i71 = 0) → V G E Y_X2_canGo cX2_canGo 3 (QM G E (kI K) xN) h70 k n 4 [(0, .ref a0), (1, .int (i_1 + (1 : Int32))), (2, .int (i_2 + (1 : Int32)))] []))))))))))))))))
theorem s_X2_canGo_4 {G : Gt} {E : Ev} {h : Hp} {k0 n0 : Nat} {a0 : Nat} {i_1 : Int32} {i_2 : Int32} {K : Int32 → Hp → Prop} (hG : Base G) (hA : 0 ≤ k0) (hB : 0 ≤ n0) (hf : g_X2_canGo_4 G E h (k0 - 0) (n0 - 0) a0 i_1 i_2 K) : V G E Y_X2_canGo cX2_canGo 3 (QM G E (kI K) xN) h k0 n0 4 [(0, .ref a0), (1, .int i_1), (2, .int i_2)] [] := by
  obtain ⟨k, hk9⟩ : ∃ z, z = k0 - 0 := ⟨_, rfl⟩
  obtain ⟨n, hn9⟩ : ∃ z, z = n0 - 0 := ⟨_, rfl⟩
  rw [← hk9, ← hn9] at hf
  refine V.weak (k' := k + 0) (n' := n + 0) ?_ (by omega) (by omega)
  unfold g_X2_canGo_4 at hf
  refine v_iload_n (i := 2) dX2_canGo_4 rfl rfl ?_
  refine v_aload_n (i := 0) dX2_canGo_5 rfl rfl ?_
  replace hf := gR_e hf
  obtain ⟨w2, fs3, r1, hh4, hk5, hf⟩ := hf
  refine v_getf (T := TX2) (ci := 2) 0 dX2_canGo_6 q2488 rfl in_X2 (Nat.le_of_ble_eq_true rfl) (Or.inl rfl) hh4 hk5 ?_
  refine v_iconst (v := 1) dX2_canGo_9 (by decide) ?_
  obtain ⟨a6, rfl⟩ := aI_s hf
  replace hf := aI_e hf
  obtain ⟨w7, N8, f9, hh10, hi11, i12, ei12, hf⟩ := hf
  refine v_iald dX2_canGo_10 hh10 hi11 ?_
  rw [← ei12]
  refine v_icmp_ge 76 dX2_canGo_11 (by decide) (fun c13 => ?_) (fun c13 => ?_)
  · replace hf := hf.1 c13
    refine v_iload_n (i := 1) dX2_canGo_76 rfl rfl ?_
    exact v_iret dX2_canGo_77 rfl ⟨_, rfl, hf⟩
  · replace hf := hf.2 c13
    refine v_iload_n (i := 1) dX2_canGo_14 rfl rfl ?_
    refine v_aload_n (i := 0) dX2_canGo_15 rfl rfl ?_
    refine v_aload_n (i := 0) dX2_canGo_16 rfl rfl ?_
    replace hf := gR_e hf
    obtain ⟨w15, fs16, r14, hh17, hk18, hf⟩ := hf
    refine v_getf (T := TX2) (ci := 2) 0 dX2_canGo_17 q2488 rfl in_X2 (Nat.le_of_ble_eq_true rfl) (Or.inl rfl) hh17 hk18 ?_
    refine v_iconst (v := 2) dX2_canGo_20 (by decide) ?_
    obtain ⟨a19, rfl⟩ := aI_s hf
    replace hf := aI_e hf
    obtain ⟨w20, N21, f22, hh23, hi24, i25, ei25, hf⟩ := hf
    refine v_iald dX2_canGo_21 hh23 hi24 ?_
    rw [← ei25]
    refine v_iload_n (i := 2) dX2_canGo_22 rfl rfl ?_
    replace hf := rv_e hf
    obtain ⟨w26, fs27, hh28, hf⟩ := hf
    refine V.addK0 ?_
    refine V.addN0 ?_
    refine v_callV (mc := 0) (ms := 0) 2 dX2_canGo_23 (m_X2_isAt hG hf) rfl hh28 rfl (lw_V q2606 q2608 qs54 q98 q2609) rfl (by decide +kernel) (by decide) rfl (cat_len (Nat.le_of_ble_eq_true rfl)) (kk_I fun i30 h29 hg => ?_) (fun _ _ _ hx => hx.elim)
    replace hf := hg
    clear hg
    refine v_if_eq 67 dX2_canGo_26 (by decide) (fun c31 => ?_) (fun c31 => ?_)
    · replace hf := hf.1 c31
      refine v_iconst (v := 0) dX2_canGo_67 (by decide) ?_
      refine v_iadd dX2_canGo_68 ?_
      refine v_istore_n (i := 1) (lv' := [(0, .ref a0), (1, .int (i_1 + (0 : Int32))), (2, .int i_2)]) dX2_canGo_69 rfl (Nat.le_of_ble_eq_true rfl) rfl rfl ?_
      refine v_iinc (i := 2) (v := i_2 + (1 : Int32)) (lv' := [(0, .ref a0), (1, .int (i_1 + (0 : Int32))), (2, .int (i_2 + (1 : Int32)))]) dX2_canGo_70 rfl rfl (Nat.le_of_ble_eq_true rfl) rfl rfl ?_
      refine v_goto 4 dX2_canGo_73 (by decide) ?_
      exact V.weak hf (by omega) (by omega)
    · replace hf := hf.2 c31
      refine v_aload_n (i := 0) dX2_canGo_29 rfl rfl ?_
      refine v_iload_n (i := 2) dX2_canGo_30 rfl rfl ?_
      refine v_iconst (v := 4) dX2_canGo_31 (by decide) ?_
      replace hf := rv_e hf
      obtain ⟨w32, fs33, hh34, hf⟩ := hf
      refine V.addK0 ?_
      refine V.addN0 ?_
      refine v_callV (mc := 0) (ms := 0) 2 dX2_canGo_32 (m_X2_of hG hf) rfl hh34 rfl (lw_V q2573 q2575 qs51 q98 q2576) rfl (by decide +kernel) (by decide) rfl (cat_len (Nat.le_of_ble_eq_true rfl)) (kk_I fun i36 h35 hg => ?_) (fun _ _ _ hx => hx.elim)
      replace hf := hg
      clear hg
      refine v_if_ne 67 dX2_canGo_35 (by decide) (fun c37 => ?_) (fun c37 => ?_)
      · replace hf := hf.1 c37
        refine v_iconst (v := 0) dX2_canGo_67 (by decide) ?_
        refine v_iadd dX2_canGo_68 ?_
        refine v_istore_n (i := 1) (lv' := [(0, .ref a0), (1, .int (i_1 + (0 : Int32))), (2, .int i_2)]) dX2_canGo_69 rfl (Nat.le_of_ble_eq_true rfl) rfl rfl ?_
        refine v_iinc (i := 2) (v := i_2 + (1 : Int32)) (lv' := [(0, .ref a0), (1, .int (i_1 + (0 : Int32))), (2, .int (i_2 + (1 : Int32)))]) dX2_canGo_70 rfl rfl (Nat.le_of_ble_eq_true rfl) rfl rfl ?_
        refine v_goto 4 dX2_canGo_73 (by decide) ?_
        exact V.weak hf (by omega) (by omega)
      · replace hf := hf.2 c37
        refine v_aload_n (i := 0) dX2_canGo_38 rfl rfl ?_
        refine v_iload_n (i := 2) dX2_canGo_39 rfl rfl ?_
        refine v_aload_n (i := 0) dX2_canGo_40 rfl rfl ?_
        replace hf := gR_e hf
        obtain ⟨w39, fs40, r38, hh41, hk42, hf⟩ := hf
        refine v_getf (T := TX2) (ci := 2) 0 dX2_canGo_41 q2488 rfl in_X2 (Nat.le_of_ble_eq_true rfl) (Or.inl rfl) hh41 hk42 ?_
        refine v_iconst (v := 3) dX2_canGo_44 (by decide) ?_
        obtain ⟨a43, rfl⟩ := aI_s hf
        replace hf := aI_e hf
        obtain ⟨w44, N45, f46, hh47, hi48, i49, ei49, hf⟩ := hf
        refine v_iald dX2_canGo_45 hh47 hi48 ?_
        rw [← ei49]
        refine v_aload_n (i := 0) dX2_canGo_46 rfl rfl ?_
        refine v_aload_n (i := 0) dX2_canGo_47 rfl rfl ?_
        replace hf := gR_e hf
        obtain ⟨w51, fs52, r50, hh53, hk54, hf⟩ := hf
        refine v_getf (T := TX2) (ci := 2) 0 dX2_canGo_48 q2488 rfl in_X2 (Nat.le_of_ble_eq_true rfl) (Or.inl rfl) hh53 hk54 ?_
        refine v_iconst (v := 2) dX2_canGo_51 (by decide) ?_
        obtain ⟨a55, rfl⟩ := aI_s hf
        replace hf := aI_e hf
        obtain ⟨w56, N57, f58, hh59, hi60, i61, ei61, hf⟩ := hf
        refine v_iald dX2_canGo_52 hh59 hi60 ?_
        rw [← ei61]
        replace hf := rv_e hf
        obtain ⟨w62, fs63, hh64, hf⟩ := hf
        refine V.addK0 ?_
        refine V.addN0 ?_
        refine v_callV (mc := 0) (ms := 0) 1 dX2_canGo_53 (m_X2_needs hG hf) rfl hh64 rfl (lw_V q2610 q2612 qs55 q98 q2613) rfl (by decide +kernel) (by decide) rfl (cat_len (Nat.le_of_ble_eq_true rfl)) (kk_I fun i66 h65 hg => ?_) (fun _ _ _ hx => hx.elim)
        replace hf := hg
        clear hg
        refine v_iadd dX2_canGo_56 ?_
        replace hf := rv_e hf
        obtain ⟨w67, fs68, hh69, hf⟩ := hf
        refine V.addK0 ?_
        refine V.addN0 ?_
        refine v_callV (mc := 0) (ms := 0) 2 dX2_canGo_57 (m_X2_isFor hG hf) rfl hh69 rfl (lw_V q2614 q2616 qs56 q98 q2617) rfl (by decide +kernel) (by decide) rfl (cat_len (Nat.le_of_ble_eq_true rfl)) (kk_I fun i71 h70 hg => ?_) (fun _ _ _ hx => hx.elim)
        replace hf := hg
        clear hg
        refine v_if_eq 67 dX2_canGo_60 (by decide) (fun c72 => ?_) (fun c72 => ?_)
        · replace hf := hf.1 c72
          refine v_iconst (v := 0) dX2_canGo_67 (by decide) ?_
          refine v_iadd dX2_canGo_68 ?_
          refine v_istore_n (i := 1) (lv' := [(0, .ref a0), (1, .int (i_1 + (0 : Int32))), (2, .int i_2)]) dX2_canGo_69 rfl (Nat.le_of_ble_eq_true rfl) rfl rfl ?_
          refine v_iinc (i := 2) (v := i_2 + (1 : Int32)) (lv' := [(0, .ref a0), (1, .int (i_1 + (0 : Int32))), (2, .int (i_2 + (1 : Int32)))]) dX2_canGo_70 rfl rfl (Nat.le_of_ble_eq_true rfl) rfl rfl ?_
          refine v_goto 4 dX2_canGo_73 (by decide) ?_
          exact V.weak hf (by omega) (by omega)
        · replace hf := hf.2 c72
          refine v_iconst (v := 1) dX2_canGo_63 (by decide) ?_
          refine v_goto 68 dX2_canGo_64 (by decide) ?_
          refine v_iadd dX2_canGo_68 ?_
          refine v_istore_n (i := 1) (lv' := [(0, .ref a0), (1, .int (i_1 + (1 : Int32))), (2, .int i_2)]) dX2_canGo_69 rfl (Nat.le_of_ble_eq_true rfl) rfl rfl ?_
          refine v_iinc (i := 2) (v := i_2 + (1 : Int32)) (lv' := [(0, .ref a0), (1, .int (i_1 + (1 : Int32))), (2, .int (i_2 + (1 : Int32)))]) dX2_canGo_70 rfl rfl (Nat.le_of_ble_eq_true rfl) rfl rfl ?_
          refine v_goto 4 dX2_canGo_73 (by decide) ?_
          exact V.weak hf (by omega) (by omega)
theorem b_X2_canGo {G : Gt} {h : Hp} {mc ms : Nat} {a0 : Nat} {K : Int32 → Hp → Prop} (hG : Base G) (hf : ∀ E : Ev, V G E Y_X2_canGo cX2_canGo 3 (QM G E (kI K) xN) h mc ms 0 [(0, .ref a0)] []) : MM G Y_X2_canGo cX2_canGo 3 mc ms [.ref a0] h (kI K) xN := mm_of hG (by decide +kernel) rfl (ac_c rfl ac_nil) (Nat.le_of_ble_eq_true rfl) (fun E _ _ => hf E)
abbrev Y_X2_walker : Yt := (yX2_walker, some (.int), 4, 106, [])
def f_X2_walker (G : Gt) (h : Hp) (k n : Nat) (t_0 : Option Nat) (i_1 : Int32) (K : Int32 → Hp → Prop) : Prop :=
f_X2_in G h i_1 (0 : Int32) (5 : Int32) (fun i2 h1 =>
((¬ (i2 = 0) → ((¬ (i_1 = 0) → ((¬ (i_1 = (5 : Int32)) → gR h1 t_0 2 0 fun r6 =>
aI h1 r6 0 (((3 : Int32) + i_1) - (1 : Int32)) fun i17 =>
K i17 h1) ∧
(i_1 = (5 : Int32) → rv h1 t_0 2 (dI G Y_X2_canGo cX2_canGo 3 [va_rf t_0] h1 k n (fun i22 h21 k25 n26 =>
K i22 h21) xN)))) ∧
(i_1 = 0 → gR h1 t_0 2 0 fun r27 =>
aI h1 r27 0 (0 : Int32) fun i38 =>
((¬ (i38 = 0) → gR h1 t_0 2 0 fun r40 =>
aI h1 r40 0 (2 : Int32) fun i51 =>
K i51 h1) ∧
(i38 = 0 → K (-1015 : Int32) h1))))) ∧
(i2 = 0 → K (-1012 : Int32) h1)))
theorem m_X2_walker {G : Gt} {h : Hp} {mc ms : Nat} {a0 : Nat} {i_1 : Int32} {K : Int32 → Hp → Prop} (hG : Base G) (hA : 0 ≤ mc) (hB : 0 ≤ ms) (hf : f_X2_walker G h (mc - 0) (ms - 0) (some a0) i_1 K) : MM G Y_X2_walker cX2_walker 2 mc ms [.ref a0, .int i_1] h (kI K) xN := by
  refine mm_of hG (by decide +kernel) rfl (ac_c rfl (ac_c rfl ac_nil)) (Nat.le_of_ble_eq_true rfl) (fun E _ _ => ?_)
  obtain ⟨k, hk9⟩ : ∃ z, z = mc - 0 := ⟨_, rfl⟩
  obtain ⟨n, hn9⟩ : ∃ z, z = ms - 0 := ⟨_, rfl⟩
  rw [← hk9, ← hn9] at hf
  refine V.weak (k' := k + 0) (n' := n + 0) ?_ (by omega) (by omega)
  show V G E Y_X2_walker cX2_walker 2 (QM G E (kI K) xN) h (k + 0) (n + 0) 0 [(0, .ref a0), (1, .int i_1)] []
  unfold f_X2_walker at hf
  refine v_iload_n (i := 1) dX2_walker_0 rfl rfl ?_
  refine v_iconst (v := 0) dX2_walker_1 (by decide) ?_
  refine v_iconst (v := 5) dX2_walker_2 (by decide) ?_
  refine V.addK0 ?_
  refine V.addN0 ?_
  refine v_callS (mc := 0) (ms := 0) 3 dX2_walker_3 (m_X2_in hG hf) rfl (lw_S q2547 q2548 q98 q2549) rfl (by decide +kernel) (by decide) rfl (cat_len (Nat.le_of_ble_eq_true rfl)) (kk_I fun i2 h1 hg => ?_) (fun _ _ _ hx => hx.elim)
  replace hf := hg
  clear hg
  refine v_if_ne 13 dX2_walker_6 (by decide) (fun c3 => ?_) (fun c3 => ?_)
  · replace hf := hf.1 c3
    refine v_iload_n (i := 1) dX2_walker_13 rfl rfl ?_
    refine v_if_ne 39 dX2_walker_14 (by decide) (fun c4 => ?_) (fun c4 => ?_)
    · replace hf := hf.1 c4
      refine v_iload_n (i := 1) dX2_walker_39 rfl rfl ?_
      refine v_iconst (v := 5) dX2_walker_40 (by decide) ?_
      refine v_icmp_ne 51 dX2_walker_41 (by decide) (fun c5 => ?_) (fun c5 => ?_)
      · replace hf := hf.1 c5
        refine v_qload_n (r := (some a0)) (i := 0) dX2_walker_51 rfl rfl ?_
        replace hf := gR_e hf
        obtain ⟨w7, fs8, r6, hh9, hk10, hf⟩ := hf
        refine v_getf (T := TX2) (ci := 2) 0 dX2_walker_52 q2488 rfl in_X2 (Nat.le_of_ble_eq_true rfl) (Or.inl rfl) hh9 hk10 ?_
        refine v_iconst (v := 3) dX2_walker_55 (by decide) ?_
        refine v_iload_n (i := 1) dX2_walker_56 rfl rfl ?_
        refine v_iadd dX2_walker_57 ?_
        refine v_iconst (v := 1) dX2_walker_58 (by decide) ?_
        refine v_isub dX2_walker_59 ?_
        obtain ⟨a11, rfl⟩ := aI_s hf
        replace hf := aI_e hf
        obtain ⟨w12, N13, f14, hh15, hi16, i17, ei17, hf⟩ := hf
        refine v_iald dX2_walker_60 hh15 hi16 ?_
        rw [← ei17]
        exact v_iret dX2_walker_61 rfl ⟨_, rfl, hf⟩
      · replace hf := hf.2 c5
        refine v_qload_n (r := (some a0)) (i := 0) dX2_walker_44 rfl rfl ?_
        replace hf := rv_e hf
        obtain ⟨w18, fs19, hh20, hf⟩ := hf
        obtain ⟨mc23, ms24, hkmc23, hnms24, hM⟩ := hf
        refine V.weak (k' := ((k - mc23) + 0) + mc23) (n' := ((n - ms24) + 0) + ms24) ?_ (by omega) (by omega)
        refine v_callV 0 dX2_walker_45 hM rfl hh20 rfl (lw_V q2642 q2644 qs59 q98 q2645) rfl (by decide +kernel) (by decide) rfl (cat_len (Nat.le_of_ble_eq_true rfl)) (kk_I fun i22 h21 hg => ?_) (fun _ _ _ hx => hx.elim)
        have hf := hg
        clear hg
        refine v_goto 61 dX2_walker_48 (by decide) ?_
        exact v_iret dX2_walker_61 rfl ⟨_, rfl, hf⟩
    · replace hf := hf.2 c4
      refine v_qload_n (r := (some a0)) (i := 0) dX2_walker_17 rfl rfl ?_
      replace hf := gR_e hf
      obtain ⟨w28, fs29, r27, hh30, hk31, hf⟩ := hf
      refine v_getf (T := TX2) (ci := 2) 0 dX2_walker_18 q2488 rfl in_X2 (Nat.le_of_ble_eq_true rfl) (Or.inl rfl) hh30 hk31 ?_
      refine v_iconst (v := 0) dX2_walker_21 (by decide) ?_
      obtain ⟨a32, rfl⟩ := aI_s hf
      replace hf := aI_e hf
      obtain ⟨w33, N34, f35, hh36, hi37, i38, ei38, hf⟩ := hf
      refine v_iald dX2_walker_22 hh36 hi37 ?_
      rw [← ei38]
      refine v_if_ne 32 dX2_walker_23 (by decide) (fun c39 => ?_) (fun c39 => ?_)
      · replace hf := hf.1 c39
        refine v_qload_n (r := (some a0)) (i := 0) dX2_walker_32 rfl rfl ?_
        replace hf := gR_e hf
        obtain ⟨w41, fs42, r40, hh43, hk44, hf⟩ := hf
        refine v_getf (T := TX2) (ci := 2) 0 dX2_walker_33 q2488 rfl in_X2 (Nat.le_of_ble_eq_true rfl) (Or.inl rfl) hh43 hk44 ?_
        refine v_iconst (v := 2) dX2_walker_36 (by decide) ?_
        obtain ⟨a45, rfl⟩ := aI_s hf
        replace hf := aI_e hf
        obtain ⟨w46, N47, f48, hh49, hi50, i51, ei51, hf⟩ := hf
        refine v_iald dX2_walker_37 hh49 hi50 ?_
        rw [← ei51]
        exact v_iret dX2_walker_38 rfl ⟨_, rfl, hf⟩
      · replace hf := hf.2 c39
        refine v_sipush (v := -1015) dX2_walker_26 (by decide) ?_
        refine v_goto 38 dX2_walker_29 (by decide) ?_
        exact v_iret dX2_walker_38 rfl ⟨_, rfl, hf⟩
  · replace hf := hf.2 c3
    refine v_sipush (v := -1012) dX2_walker_9 (by decide) ?_
    exact v_iret dX2_walker_12 rfl ⟨_, rfl, hf⟩
abbrev Y_X2_areRooms : Yt := (yX2_areRooms, some (.boolean), 3, 83, [])
def f_X2_areRooms (G : Gt) (h : Hp) (t_0 : Option Nat) (i_1 : Int32) (i_2 : Int32) (K : Int32 → Hp → Prop) : Prop :=
rv h t_0 2 (f_X2_isRoom G h t_0 i_1 (fun i5 h4 =>
((i5 = 0 → K (0 : Int32) h4) ∧
(¬ (i5 = 0) → rv h4 t_0 2 (f_X2_isRoom G h4 t_0 i_2 (fun i11 h10 =>
((i11 = 0 → K (0 : Int32) h10) ∧
(¬ (i11 = 0) → K (1 : Int32) h10))))))))
theorem m_X2_areRooms {G : Gt} {h : Hp} {a0 : Nat} {i_1 : Int32} {i_2 : Int32} {K : Int32 → Hp → Prop} (hG : Base G) (hf : f_X2_areRooms G h (some a0) i_1 i_2 K) : MM G Y_X2_areRooms cX2_areRooms 3 0 0 [.ref a0, .int i_1, .int i_2] h (kI K) xN := by
  refine mm_of hG (by decide +kernel) rfl (ac_c rfl (ac_c rfl (ac_c rfl ac_nil))) (Nat.le_of_ble_eq_true rfl) (fun E _ _ => ?_)
  show V G E Y_X2_areRooms cX2_areRooms 3 (QM G E (kI K) xN) h 0 0 0 [(0, .ref a0), (1, .int i_1), (2, .int i_2)] []
  unfold f_X2_areRooms at hf
  refine v_qload_n (r := (some a0)) (i := 0) dX2_areRooms_0 rfl rfl ?_
  refine v_iload_n (i := 1) dX2_areRooms_1 rfl rfl ?_
  replace hf := rv_e hf
  obtain ⟨w1, fs2, hh3, hf⟩ := hf
  refine V.addK0 ?_
  refine V.addN0 ?_
  refine v_callV (mc := 0) (ms := 0) 1 dX2_areRooms_2 (m_X2_isRoom hG hf) rfl hh3 rfl (lw_V q2565 q2567 qs49 q98 q2568) rfl (by decide +kernel) (by decide) rfl (cat_len (Nat.le_of_ble_eq_true rfl)) (kk_I fun i5 h4 hg => ?_) (fun _ _ _ hx => hx.elim)
  replace hf := hg
  clear hg
  refine v_if_eq 20 dX2_areRooms_5 (by decide) (fun c6 => ?_) (fun c6 => ?_)
  · replace hf := hf.1 c6
    refine v_iconst (v := 0) dX2_areRooms_20 (by decide) ?_
    exact v_zret dX2_areRooms_21 rfl (by decide) ⟨_, rfl, hf⟩
  · replace hf := hf.2 c6
    refine v_qload_n (r := (some a0)) (i := 0) dX2_areRooms_8 rfl rfl ?_
    refine v_iload_n (i := 2) dX2_areRooms_9 rfl rfl ?_
    replace hf := rv_e hf
    obtain ⟨w7, fs8, hh9, hf⟩ := hf
    refine V.addK0 ?_
    refine V.addN0 ?_
    refine v_callV (mc := 0) (ms := 0) 1 dX2_areRooms_10 (m_X2_isRoom hG hf) rfl hh9 rfl (lw_V q2565 q2567 qs49 q98 q2568) rfl (by decide +kernel) (by decide) rfl (cat_len (Nat.le_of_ble_eq_true rfl)) (kk_I fun i11 h10 hg => ?_) (fun _ _ _ hx => hx.elim)
    replace hf := hg
    clear hg
    refine v_if_eq 20 dX2_areRooms_13 (by decide) (fun c12 => ?_) (fun c12 => ?_)
    · replace hf := hf.1 c12
      refine v_iconst (v := 0) dX2_areRooms_20 (by decide) ?_
      exact v_zret dX2_areRooms_21 rfl (by decide) ⟨_, rfl, hf⟩
    · replace hf := hf.2 c12
      refine v_iconst (v := 1) dX2_areRooms_16 (by decide) ?_
      refine v_goto 21 dX2_areRooms_17 (by decide) ?_
      exact v_zret dX2_areRooms_21 rfl (by decide) ⟨_, rfl, hf⟩
abbrev Y_X2_isOpenTo : Yt := (yX2_isOpenTo, some (.boolean), 3, 84, [])
def f_X2_isOpenTo (G : Gt) (h : Hp) (t_0 : Option Nat) (i_1 : Int32) (i_2 : Int32) (K : Int32 → Hp → Prop) : Prop :=
rv h t_0 2 (f_X2_isAt G h t_0 (i_1 / (2 : Int32)) i_2 (fun i5 h4 =>
((i5 = 0 → K (0 : Int32) h4) ∧
(¬ (i5 = 0) → rv h4 t_0 2 (f_X2_of G h4 t_0 i_2 (4 : Int32) (fun i11 h10 =>
((¬ (i11 = 0) → K (0 : Int32) h10) ∧
(i11 = 0 → rv h10 t_0 2 (f_X2_needs G h10 t_0 (i_1 / (2 : Int32)) (fun i17 h16 =>
rv h16 t_0 2 (f_X2_isFor G h16 t_0 i_2 ((i_1 - i_1 / (2 : Int32) * (2 : Int32)) + i17) (fun i22 h21 =>
((i22 = 0 → K (0 : Int32) h21) ∧
(¬ (i22 = 0) → K (1 : Int32) h21))))))))))))))
theorem m_X2_isOpenTo {G : Gt} {h : Hp} {a0 : Nat} {i_1 : Int32} {i_2 : Int32} {K : Int32 → Hp → Prop} (hG : Base G) (hf : f_X2_isOpenTo G h (some a0) i_1 i_2 K) : MM G Y_X2_isOpenTo cX2_isOpenTo 3 0 0 [.ref a0, .int i_1, .int i_2] h (kI K) xN := by
  refine mm_of hG (by decide +kernel) rfl (ac_c rfl (ac_c rfl (ac_c rfl ac_nil))) (Nat.le_of_ble_eq_true rfl) (fun E _ _ => ?_)
  show V G E Y_X2_isOpenTo cX2_isOpenTo 3 (QM G E (kI K) xN) h 0 0 0 [(0, .ref a0), (1, .int i_1), (2, .int i_2)] []
  unfold f_X2_isOpenTo at hf
  refine v_qload_n (r := (some a0)) (i := 0) dX2_isOpenTo_0 rfl rfl ?_
  refine v_iload_n (i := 1) dX2_isOpenTo_1 rfl rfl ?_
  refine v_iconst (v := 2) dX2_isOpenTo_2 (by decide) ?_
  refine v_idiv dX2_isOpenTo_3 (by decide) ?_
  refine v_iload_n (i := 2) dX2_isOpenTo_4 rfl rfl ?_
  replace hf := rv_e hf
  obtain ⟨w1, fs2, hh3, hf⟩ := hf
  refine V.addK0 ?_
  refine V.addN0 ?_
  refine v_callV (mc := 0) (ms := 0) 2 dX2_isOpenTo_5 (m_X2_isAt hG hf) rfl hh3 rfl (lw_V q2606 q2608 qs54 q98 q2609) rfl (by decide +kernel) (by decide) rfl (cat_len (Nat.le_of_ble_eq_true rfl)) (kk_I fun i5 h4 hg => ?_) (fun _ _ _ hx => hx.elim)
  replace hf := hg
  clear hg
  refine v_if_eq 43 dX2_isOpenTo_8 (by decide) (fun c6 => ?_) (fun c6 => ?_)
  · replace hf := hf.1 c6
    refine v_iconst (v := 0) dX2_isOpenTo_43 (by decide) ?_
    exact v_zret dX2_isOpenTo_44 rfl (by decide) ⟨_, rfl, hf⟩
  · replace hf := hf.2 c6
    refine v_qload_n (r := (some a0)) (i := 0) dX2_isOpenTo_11 rfl rfl ?_
    refine v_iload_n (i := 2) dX2_isOpenTo_12 rfl rfl ?_
    refine v_iconst (v := 4) dX2_isOpenTo_13 (by decide) ?_
    replace hf := rv_e hf
    obtain ⟨w7, fs8, hh9, hf⟩ := hf
    refine V.addK0 ?_
    refine V.addN0 ?_
    refine v_callV (mc := 0) (ms := 0) 2 dX2_isOpenTo_14 (m_X2_of hG hf) rfl hh9 rfl (lw_V q2573 q2575 qs51 q98 q2576) rfl (by decide +kernel) (by decide) rfl (cat_len (Nat.le_of_ble_eq_true rfl)) (kk_I fun i11 h10 hg => ?_) (fun _ _ _ hx => hx.elim)
    replace hf := hg
    clear hg
    refine v_if_ne 43 dX2_isOpenTo_17 (by decide) (fun c12 => ?_) (fun c12 => ?_)
    · replace hf := hf.1 c12
      refine v_iconst (v := 0) dX2_isOpenTo_43 (by decide) ?_
      exact v_zret dX2_isOpenTo_44 rfl (by decide) ⟨_, rfl, hf⟩
    · replace hf := hf.2 c12
      refine v_qload_n (r := (some a0)) (i := 0) dX2_isOpenTo_20 rfl rfl ?_
      refine v_iload_n (i := 2) dX2_isOpenTo_21 rfl rfl ?_
      refine v_iload_n (i := 1) dX2_isOpenTo_22 rfl rfl ?_
      refine v_iconst (v := 2) dX2_isOpenTo_23 (by decide) ?_
      refine v_irem dX2_isOpenTo_24 (by decide) ?_
      refine v_qload_n (r := (some a0)) (i := 0) dX2_isOpenTo_25 rfl rfl ?_
      refine v_iload_n (i := 1) dX2_isOpenTo_26 rfl rfl ?_
      refine v_iconst (v := 2) dX2_isOpenTo_27 (by decide) ?_
      refine v_idiv dX2_isOpenTo_28 (by decide) ?_
      replace hf := rv_e hf
      obtain ⟨w13, fs14, hh15, hf⟩ := hf
      refine V.addK0 ?_
      refine V.addN0 ?_
      refine v_callV (mc := 0) (ms := 0) 1 dX2_isOpenTo_29 (m_X2_needs hG hf) rfl hh15 rfl (lw_V q2610 q2612 qs55 q98 q2613) rfl (by decide +kernel) (by decide) rfl (cat_len (Nat.le_of_ble_eq_true rfl)) (kk_I fun i17 h16 hg => ?_) (fun _ _ _ hx => hx.elim)
      replace hf := hg
      clear hg
      refine v_iadd dX2_isOpenTo_32 ?_
      replace hf := rv_e hf
      obtain ⟨w18, fs19, hh20, hf⟩ := hf
      refine V.addK0 ?_
      refine V.addN0 ?_
      refine v_callV (mc := 0) (ms := 0) 2 dX2_isOpenTo_33 (m_X2_isFor hG hf) rfl hh20 rfl (lw_V q2614 q2616 qs56 q98 q2617) rfl (by decide +kernel) (by decide) rfl (cat_len (Nat.le_of_ble_eq_true rfl)) (kk_I fun i22 h21 hg => ?_) (fun _ _ _ hx => hx.elim)
      replace hf := hg
      clear hg
      refine v_if_eq 43 dX2_isOpenTo_36 (by decide) (fun c23 => ?_) (fun c23 => ?_)
      · replace hf := hf.1 c23
        refine v_iconst (v := 0) dX2_isOpenTo_43 (by decide) ?_
        exact v_zret dX2_isOpenTo_44 rfl (by decide) ⟨_, rfl, hf⟩
      · replace hf := hf.2 c23
        refine v_iconst (v := 1) dX2_isOpenTo_39 (by decide) ?_
        refine v_goto 44 dX2_isOpenTo_40 (by decide) ?_
        exact v_zret dX2_isOpenTo_44 rfl (by decide) ⟨_, rfl, hf⟩
abbrev Y_X2_comesBy : Yt := (yX2_comesBy, some (.int), 3, 84, [])
def f_X2_comesBy (G : Gt) (h : Hp) (t_0 : Option Nat) (i_1 : Int32) (i_2 : Int32) (K : Int32 → Hp → Prop) : Prop :=
rv h t_0 2 (f_X2_behind G h t_0 (i_1 / (2 : Int32)) i_2 (fun i5 h4 =>
rv h4 t_0 2 (f_X2_needs G h4 t_0 (i_1 / (2 : Int32)) (fun i10 h9 =>
K (((2 : Int32) * i5) + ((i_1 + i10) - (i_1 + i10) / (2 : Int32) * (2 : Int32))) h9))))
theorem m_X2_comesBy {G : Gt} {h : Hp} {a0 : Nat} {i_1 : Int32} {i_2 : Int32} {K : Int32 → Hp → Prop} (hG : Base G) (hf : f_X2_comesBy G h (some a0) i_1 i_2 K) : MM G Y_X2_comesBy cX2_comesBy 3 0 0 [.ref a0, .int i_1, .int i_2] h (kI K) xN := by
  refine mm_of hG (by decide +kernel) rfl (ac_c rfl (ac_c rfl (ac_c rfl ac_nil))) (Nat.le_of_ble_eq_true rfl) (fun E _ _ => ?_)
  show V G E Y_X2_comesBy cX2_comesBy 3 (QM G E (kI K) xN) h 0 0 0 [(0, .ref a0), (1, .int i_1), (2, .int i_2)] []
  unfold f_X2_comesBy at hf
  refine v_iconst (v := 2) dX2_comesBy_0 (by decide) ?_
  refine v_qload_n (r := (some a0)) (i := 0) dX2_comesBy_1 rfl rfl ?_
  refine v_iload_n (i := 1) dX2_comesBy_2 rfl rfl ?_
  refine v_iconst (v := 2) dX2_comesBy_3 (by decide) ?_
  refine v_idiv dX2_comesBy_4 (by decide) ?_
  refine v_iload_n (i := 2) dX2_comesBy_5 rfl rfl ?_
  replace hf := rv_e hf
  obtain ⟨w1, fs2, hh3, hf⟩ := hf
  refine V.addK0 ?_
  refine V.addN0 ?_
  refine v_callV (mc := 0) (ms := 0) 2 dX2_comesBy_6 (m_X2_behind hG hf) rfl hh3 rfl (lw_V q2622 q2624 qs58 q98 q2625) rfl (by decide +kernel) (by decide) rfl (cat_len (Nat.le_of_ble_eq_true rfl)) (kk_I fun i5 h4 hg => ?_) (fun _ _ _ hx => hx.elim)
  replace hf := hg
  clear hg
  refine v_imul dX2_comesBy_9 ?_
  refine v_iload_n (i := 1) dX2_comesBy_10 rfl rfl ?_
  refine v_qload_n (r := (some a0)) (i := 0) dX2_comesBy_11 rfl rfl ?_
  refine v_iload_n (i := 1) dX2_comesBy_12 rfl rfl ?_
  refine v_iconst (v := 2) dX2_comesBy_13 (by decide) ?_
  refine v_idiv dX2_comesBy_14 (by decide) ?_
  replace hf := rv_e hf
  obtain ⟨w6, fs7, hh8, hf⟩ := hf
  refine V.addK0 ?_
  refine V.addN0 ?_
  refine v_callV (mc := 0) (ms := 0) 1 dX2_comesBy_15 (m_X2_needs hG hf) rfl hh8 rfl (lw_V q2610 q2612 qs55 q98 q2613) rfl (by decide +kernel) (by decide) rfl (cat_len (Nat.le_of_ble_eq_true rfl)) (kk_I fun i10 h9 hg => ?_) (fun _ _ _ hx => hx.elim)
  replace hf := hg
  clear hg
  refine v_iadd dX2_comesBy_18 ?_
  refine v_iconst (v := 2) dX2_comesBy_19 (by decide) ?_
  refine v_irem dX2_comesBy_20 (by decide) ?_
  refine v_iadd dX2_comesBy_21 ?_
  exact v_iret dX2_comesBy_22 rfl ⟨_, rfl, hf⟩
abbrev Y_X2_spreads : Yt := (yX2_spreads, none, 4, 106, [])
def g_X2_spreads_0 (G : Gt) (E : Ev) (h : Hp) (k n : Nat) (a0 : Nat) (i_1 : Int32) (i_2 : Int32) (i_3 : Int32) (K : Hp → Prop) : Prop :=
V G E Y_X2_spreads cX2_spreads 7 (QM G E (kV K) xN) h k n 3 [(0, .ref a0), (1, .int i_1), (2, .int i_2), (3, .int i_3), (4, .int (0 : Int32))] []
theorem s_X2_spreads_0 {G : Gt} {E : Ev} {h : Hp} {k0 n0 : Nat} {a0 : Nat} {i_1 : Int32} {i_2 : Int32} {i_3 : Int32} {K : Hp → Prop} (hG : Base G) (hA : 0 ≤ k0) (hB : 0 ≤ n0) (hf : g_X2_spreads_0 G E h (k0 - 0) (n0 - 0) a0 i_1 i_2 i_3 K) : V G E Y_X2_spreads cX2_spreads 7 (QM G E (kV K) xN) h k0 n0 0 [(0, .ref a0), (1, .int i_1), (2, .int i_2), (3, .int i_3)] [] := by
  obtain ⟨k, hk9⟩ : ∃ z, z = k0 - 0 := ⟨_, rfl⟩
  obtain ⟨n, hn9⟩ : ∃ z, z = n0 - 0 := ⟨_, rfl⟩
  rw [← hk9, ← hn9] at hf
  refine V.weak (k' := k + 0) (n' := n + 0) ?_ (by omega) (by omega)
  unfold g_X2_spreads_0 at hf
  refine v_iconst (v := 0) dX2_spreads_0 (by decide) ?_
  refine v_istore (i := 4) (lv' := [(0, .ref a0), (1, .int i_1), (2, .int i_2), (3, .int i_3), (4, .int (0 : Int32))]) dX2_spreads_1 (Nat.le_of_ble_eq_true rfl) rfl rfl ?_
  exact V.weak hf (by omega) (by omega)
def g_X2_spreads_3 (G : Gt) (E : Ev) (h : Hp) (k n : Nat) (a0 : Nat) (i_1 : Int32) (i_2 : Int32) (i_3 : Int32) (i_4 : Int32) (K : Hp → Prop) : Prop :=
(((20 : Int32) ≤ i_4 → gR h (some a0) 2 13 fun r2 =>
sI h r2 (((2 : Int32) * i_1) + i_2) (0 : Int32) fun h12 =>
V G E Y_X2_spreads cX2_spreads 7 (QM G E (kV K) xN) h12 k n 40 [(0, .ref a0), (3, .int i_3), (4, .int (0 : Int32))] []) ∧
(¬ ((20 : Int32) ≤ i_4) → gR h (some a0) 2 13 fun r13 =>
sI h r13 i_4 (9999 : Int32) fun h23 =>
V G E Y_X2_spreads cX2_spreads 7 (QM G E (kV K) xN) h23 k n 3 [(0, .ref a0), (1, .int i_1), (2, .int i_2), (3, .int i_3), (4, .int (i_4 + (1 : Int32)))] []))
theorem s_X2_spreads_3 {G : Gt} {E : Ev} {h : Hp} {k0 n0 : Nat} {a0 : Nat} {i_1 : Int32} {i_2 : Int32} {i_3 : Int32} {i_4 : Int32} {K : Hp → Prop} (hG : Base G) (hA : 0 ≤ k0) (hB : 0 ≤ n0) (hf : g_X2_spreads_3 G E h (k0 - 0) (n0 - 0) a0 i_1 i_2 i_3 i_4 K) : V G E Y_X2_spreads cX2_spreads 7 (QM G E (kV K) xN) h k0 n0 3 [(0, .ref a0), (1, .int i_1), (2, .int i_2), (3, .int i_3), (4, .int i_4)] [] := by
  obtain ⟨k, hk9⟩ : ∃ z, z = k0 - 0 := ⟨_, rfl⟩
  obtain ⟨n, hn9⟩ : ∃ z, z = n0 - 0 := ⟨_, rfl⟩
  rw [← hk9, ← hn9] at hf
  refine V.weak (k' := k + 0) (n' := n + 0) ?_ (by omega) (by omega)
  unfold g_X2_spreads_3 at hf
  refine v_iload (i := 4) dX2_spreads_3 rfl ?_
  refine v_bipush (v := 20) dX2_spreads_5 (by decide) ?_
  refine v_icmp_ge 26 dX2_spreads_7 (by decide) (fun c1 => ?_) (fun c1 => ?_)
  · replace hf := hf.1 c1
    refine v_aload_n (i := 0) dX2_spreads_26 rfl rfl ?_
    replace hf := gR_e hf
    obtain ⟨w3, fs4, r2, hh5, hk6, hf⟩ := hf
    refine v_getf (T := TX2) (ci := 2) 13 dX2_spreads_27 q2501 rfl in_X2 (Nat.le_of_ble_eq_true rfl) (Or.inl rfl) hh5 hk6 ?_
    refine v_iconst (v := 2) dX2_spreads_30 (by decide) ?_
    refine v_iload_n (i := 1) dX2_spreads_31 rfl rfl ?_
    refine v_imul dX2_spreads_32 ?_
    refine v_iload_n (i := 2) dX2_spreads_33 rfl rfl ?_
    refine v_iadd dX2_spreads_34 ?_
    refine v_iconst (v := 0) dX2_spreads_35 (by decide) ?_
    obtain ⟨a7, rfl⟩ := sI_s hf
    replace hf := sI_e hf
    obtain ⟨N8, f9, hh10, hi11, hf⟩ := hf
    refine v_iast dX2_spreads_36 hh10 hi11 ?_
    obtain ⟨h12, eh12⟩ : ∃ z, z = hs h a7 (true, .inl (0, N8, .inl (upd f9 (((2 : Int32) * i_1) + i_2).toNatClampNeg ((0 : Int32))))) := ⟨_, rfl⟩
    try rw [← eh12] at hf
    rw [← eh12]
    refine v_iconst (v := 0) dX2_spreads_37 (by decide) ?_
    refine v_istore (i := 4) (lv' := [(0, .ref a0), (1, .int i_1), (2, .int i_2), (3, .int i_3), (4, .int (0 : Int32))]) dX2_spreads_38 (Nat.le_of_ble_eq_true rfl) rfl rfl ?_
    refine V.lp (lv' := [(0, .ref a0), (3, .int i_3), (4, .int (0 : Int32))]) [0, 3, 4] rfl ?_
    exact V.weak hf (by omega) (by omega)
  · replace hf := hf.2 c1
    refine v_aload_n (i := 0) dX2_spreads_10 rfl rfl ?_
    replace hf := gR_e hf
    obtain ⟨w14, fs15, r13, hh16, hk17, hf⟩ := hf
    refine v_getf (T := TX2) (ci := 2) 13 dX2_spreads_11 q2501 rfl in_X2 (Nat.le_of_ble_eq_true rfl) (Or.inl rfl) hh16 hk17 ?_
    refine v_iload (i := 4) dX2_spreads_14 rfl ?_
    refine v_sipush (v := 9999) dX2_spreads_16 (by decide) ?_
    obtain ⟨a18, rfl⟩ := sI_s hf
    replace hf := sI_e hf
    obtain ⟨N19, f20, hh21, hi22, hf⟩ := hf
    refine v_iast dX2_spreads_19 hh21 hi22 ?_
    obtain ⟨h23, eh23⟩ : ∃ z, z = hs h a18 (true, .inl (0, N19, .inl (upd f20 (i_4).toNatClampNeg ((9999 : Int32))))) := ⟨_, rfl⟩
    try rw [← eh23] at hf
    rw [← eh23]
    refine v_iinc (i := 4) (v := i_4 + (1 : Int32)) (lv' := [(0, .ref a0), (1, .int i_1), (2, .int i_2), (3, .int i_3), (4, .int (i_4 + (1 : Int32)))]) dX2_spreads_20 rfl rfl (Nat.le_of_ble_eq_true rfl) rfl rfl ?_
    refine v_goto 3 dX2_spreads_23 (by decide) ?_
    exact V.weak hf (by omega) (by omega)
def g_X2_spreads_40 (G : Gt) (E : Ev) (h : Hp) (k n : Nat) (a0 : Nat) (i_3 : Int32) (i_4 : Int32) (K : Hp → Prop) : Prop :=
(((20 : Int32) ≤ i_4 → K h) ∧
(¬ ((20 : Int32) ≤ i_4) → V G E Y_X2_spreads cX2_spreads 7 (QM G E (kV K) xN) h k n 50 [(0, .ref a0), (3, .int i_3), (4, .int i_4), (5, .int (0 : Int32))] []))
theorem s_X2_spreads_40 {G : Gt} {E : Ev} {h : Hp} {k0 n0 : Nat} {a0 : Nat} {i_3 : Int32} {i_4 : Int32} {K : Hp → Prop} (hG : Base G) (hA : 0 ≤ k0) (hB : 0 ≤ n0) (hf : g_X2_spreads_40 G E h (k0 - 0) (n0 - 0) a0 i_3 i_4 K) : V G E Y_X2_spreads cX2_spreads 7 (QM G E (kV K) xN) h k0 n0 40 [(0, .ref a0), (3, .int i_3), (4, .int i_4)] [] := by
  obtain ⟨k, hk9⟩ : ∃ z, z = k0 - 0 := ⟨_, rfl⟩
  obtain ⟨n, hn9⟩ : ∃ z, z = n0 - 0 := ⟨_, rfl⟩
  rw [← hk9, ← hn9] at hf
  refine V.weak (k' := k + 0) (n' := n + 0) ?_ (by omega) (by omega)
  unfold g_X2_spreads_40 at hf
  refine v_iload (i := 4) dX2_spreads_40 rfl ?_
  refine v_bipush (v := 20) dX2_spreads_42 (by decide) ?_
  refine v_icmp_ge 201 dX2_spreads_44 (by decide) (fun c1 => ?_) (fun c1 => ?_)
  · replace hf := hf.1 c1
    exact v_vret dX2_spreads_201 rfl ⟨rfl, hf⟩
  · replace hf := hf.2 c1
    refine v_iconst (v := 0) dX2_spreads_47 (by decide) ?_
    refine v_istore (i := 5) (lv' := [(0, .ref a0), (3, .int i_3), (4, .int i_4), (5, .int (0 : Int32))]) dX2_spreads_48 (Nat.le_of_ble_eq_true rfl) rfl rfl ?_
    exact V.weak hf (by omega) (by omega)
def g_X2_spreads_50 (G : Gt) (E : Ev) (h : Hp) (k n : Nat) (a0 : Nat) (i_3 : Int32) (i_4 : Int32) (i_5 : Int32) (K : Hp → Prop) : Prop :=
gR h (some a0) 2 0 fun r1 =>
aI h r1 0 (0 : Int32) fun i12 =>
(((2 : Int32) * i12 ≤ i_5 → V G E Y_X2_spreads cX2_spreads 7 (QM G E (kV K) xN) h k n 40 [(0, .ref a0), (3, .int i_3), (4, .int (i_4 + (1 : Int32)))] []) ∧
(¬ ((2 : Int32) * i12 ≤ i_5) → gR h (some a0) 2 13 fun r14 =>
aI h r14 0 i_5 fun i25 =>
((¬ (i25 = (9999 : Int32)) → ((i_3 = 0 → V G E Y_X2_spreads cX2_spreads 7 (QM G E (kV K) xN) h k n 116 [(0, .ref a0), (3, .int i_3), (4, .int i_4), (5, .int i_5), (6, .int (0 : Int32))] []) ∧
(¬ (i_3 = 0) → gR h (some a0) 2 13 fun r28 =>
gR h (some a0) 2 13 fun r33 =>
aI h r33 0 (i_5 ^^^ (1 : Int32)) fun i44 =>
gR h (some a0) 2 13 fun r45 =>
aI h r45 0 i_5 fun i56 =>
f_X2_least G h i44 (i56 + (1 : Int32)) (fun i58 h57 =>
sI h57 r28 (i_5 ^^^ (1 : Int32)) i58 fun h64 =>
V G E Y_X2_spreads cX2_spreads 7 (QM G E (kV K) xN) h64 k n 116 [(0, .ref a0), (3, .int i_3), (4, .int i_4), (5, .int i_5), (6, .int (0 : Int32))] [])))) ∧
(i25 = (9999 : Int32) → V G E Y_X2_spreads cX2_spreads 7 (QM G E (kV K) xN) h k n 50 [(0, .ref a0), (3, .int i_3), (4, .int i_4), (5, .int (i_5 + (1 : Int32)))] []))))
theorem s_X2_spreads_50 {G : Gt} {E : Ev} {h : Hp} {k0 n0 : Nat} {a0 : Nat} {i_3 : Int32} {i_4 : Int32} {i_5 : Int32} {K : Hp → Prop} (hG : Base G) (hA : 0 ≤ k0) (hB : 0 ≤ n0) (hf : g_X2_spreads_50 G E h (k0 - 0) (n0 - 0) a0 i_3 i_4 i_5 K) : V G E Y_X2_spreads cX2_spreads 7 (QM G E (kV K) xN) h k0 n0 50 [(0, .ref a0), (3, .int i_3), (4, .int i_4), (5, .int i_5)] [] := by
  obtain ⟨k, hk9⟩ : ∃ z, z = k0 - 0 := ⟨_, rfl⟩
  obtain ⟨n, hn9⟩ : ∃ z, z = n0 - 0 := ⟨_, rfl⟩
  rw [← hk9, ← hn9] at hf
  refine V.weak (k' := k + 0) (n' := n + 0) ?_ (by omega) (by omega)
  unfold g_X2_spreads_50 at hf
  refine v_iload (i := 5) dX2_spreads_50 rfl ?_
  refine v_iconst (v := 2) dX2_spreads_52 (by decide) ?_
  refine v_aload_n (i := 0) dX2_spreads_53 rfl rfl ?_
  replace hf := gR_e hf
  obtain ⟨w2, fs3, r1, hh4, hk5, hf⟩ := hf
  refine v_getf (T := TX2) (ci := 2) 0 dX2_spreads_54 q2488 rfl in_X2 (Nat.le_of_ble_eq_true rfl) (Or.inl rfl) hh4 hk5 ?_
  refine v_iconst (v := 0) dX2_spreads_57 (by decide) ?_
  obtain ⟨a6, rfl⟩ := aI_s hf
  replace hf := aI_e hf
  obtain ⟨w7, N8, f9, hh10, hi11, i12, ei12, hf⟩ := hf
  refine v_iald dX2_spreads_58 hh10 hi11 ?_
  rw [← ei12]
  refine v_imul dX2_spreads_59 ?_
  refine v_icmp_ge 195 dX2_spreads_60 (by decide) (fun c13 => ?_) (fun c13 => ?_)
  · replace hf := hf.1 c13
    refine v_iinc (i := 4) (v := i_4 + (1 : Int32)) (lv' := [(0, .ref a0), (3, .int i_3), (4, .int (i_4 + (1 : Int32))), (5, .int i_5)]) dX2_spreads_195 rfl rfl (Nat.le_of_ble_eq_true rfl) rfl rfl ?_
    refine v_goto 40 dX2_spreads_198 (by decide) ?_
    refine V.lp (lv' := [(0, .ref a0), (3, .int i_3), (4, .int (i_4 + (1 : Int32)))]) [0, 1, 2] rfl ?_
    exact V.weak hf (by omega) (by omega)
  · replace hf := hf.2 c13
    refine v_aload_n (i := 0) dX2_spreads_63 rfl rfl ?_
    replace hf := gR_e hf
    obtain ⟨w15, fs16, r14, hh17, hk18, hf⟩ := hf
    refine v_getf (T := TX2) (ci := 2) 13 dX2_spreads_64 q2501 rfl in_X2 (Nat.le_of_ble_eq_true rfl) (Or.inl rfl) hh17 hk18 ?_
    refine v_iload (i := 5) dX2_spreads_67 rfl ?_
    obtain ⟨a19, rfl⟩ := aI_s hf
    replace hf := aI_e hf
    obtain ⟨w20, N21, f22, hh23, hi24, i25, ei25, hf⟩ := hf
    refine v_iald dX2_spreads_69 hh23 hi24 ?_
    rw [← ei25]
    refine v_sipush (v := 9999) dX2_spreads_70 (by decide) ?_
    refine v_icmp_ne 79 dX2_spreads_73 (by decide) (fun c26 => ?_) (fun c26 => ?_)
    · replace hf := hf.1 c26
      refine v_iload_n (i := 3) dX2_spreads_79 rfl rfl ?_
      refine v_if_eq 113 dX2_spreads_80 (by decide) (fun c27 => ?_) (fun c27 => ?_)
      · replace hf := hf.1 c27
        refine v_iconst (v := 0) dX2_spreads_113 (by decide) ?_
        refine v_istore (i := 6) (lv' := [(0, .ref a0), (3, .int i_3), (4, .int i_4), (5, .int i_5), (6, .int (0 : Int32))]) dX2_spreads_114 (Nat.le_of_ble_eq_true rfl) rfl rfl ?_
        exact V.weak hf (by omega) (by omega)
      · replace hf := hf.2 c27
        refine v_aload_n (i := 0) dX2_spreads_83 rfl rfl ?_
        replace hf := gR_e hf
        obtain ⟨w29, fs30, r28, hh31, hk32, hf⟩ := hf
        refine v_getf (T := TX2) (ci := 2) 13 dX2_spreads_84 q2501 rfl in_X2 (Nat.le_of_ble_eq_true rfl) (Or.inl rfl) hh31 hk32 ?_
        refine v_iload (i := 5) dX2_spreads_87 rfl ?_
        refine v_iconst (v := 1) dX2_spreads_89 (by decide) ?_
        refine v_ixor dX2_spreads_90 ?_
        refine v_aload_n (i := 0) dX2_spreads_91 rfl rfl ?_
        replace hf := gR_e hf
        obtain ⟨w34, fs35, r33, hh36, hk37, hf⟩ := hf
        refine v_getf (T := TX2) (ci := 2) 13 dX2_spreads_92 q2501 rfl in_X2 (Nat.le_of_ble_eq_true rfl) (Or.inl rfl) hh36 hk37 ?_
        refine v_iload (i := 5) dX2_spreads_95 rfl ?_
        refine v_iconst (v := 1) dX2_spreads_97 (by decide) ?_
        refine v_ixor dX2_spreads_98 ?_
        obtain ⟨a38, rfl⟩ := aI_s hf
        replace hf := aI_e hf
        obtain ⟨w39, N40, f41, hh42, hi43, i44, ei44, hf⟩ := hf
        refine v_iald dX2_spreads_99 hh42 hi43 ?_
        rw [← ei44]
        refine v_aload_n (i := 0) dX2_spreads_100 rfl rfl ?_
        replace hf := gR_e hf
        obtain ⟨w46, fs47, r45, hh48, hk49, hf⟩ := hf
        refine v_getf (T := TX2) (ci := 2) 13 dX2_spreads_101 q2501 rfl in_X2 (Nat.le_of_ble_eq_true rfl) (Or.inl rfl) hh48 hk49 ?_
        refine v_iload (i := 5) dX2_spreads_104 rfl ?_
        obtain ⟨a50, rfl⟩ := aI_s hf
        replace hf := aI_e hf
        obtain ⟨w51, N52, f53, hh54, hi55, i56, ei56, hf⟩ := hf
        refine v_iald dX2_spreads_106 hh54 hi55 ?_
        rw [← ei56]
        refine v_iconst (v := 1) dX2_spreads_107 (by decide) ?_
        refine v_iadd dX2_spreads_108 ?_
        refine V.addK0 ?_
        refine V.addN0 ?_
        refine v_callS (mc := 0) (ms := 0) 2 dX2_spreads_109 (m_X2_least hG hf) rfl (lw_S q2577 q2578 q98 q2579) rfl (by decide +kernel) (by decide) rfl (cat_len (Nat.le_of_ble_eq_true rfl)) (kk_I fun i58 h57 hg => ?_) (fun _ _ _ hx => hx.elim)
        replace hf := hg
        clear hg
        obtain ⟨a59, rfl⟩ := sI_s hf
        replace hf := sI_e hf
        obtain ⟨N60, f61, hh62, hi63, hf⟩ := hf
        refine v_iast dX2_spreads_112 hh62 hi63 ?_
        obtain ⟨h64, eh64⟩ : ∃ z, z = hs h57 a59 (true, .inl (0, N60, .inl (upd f61 (i_5 ^^^ (1 : Int32)).toNatClampNeg (i58)))) := ⟨_, rfl⟩
        try rw [← eh64] at hf
        rw [← eh64]
        refine v_iconst (v := 0) dX2_spreads_113 (by decide) ?_
        refine v_istore (i := 6) (lv' := [(0, .ref a0), (3, .int i_3), (4, .int i_4), (5, .int i_5), (6, .int (0 : Int32))]) dX2_spreads_114 (Nat.le_of_ble_eq_true rfl) rfl rfl ?_
        exact V.weak hf (by omega) (by omega)
    · replace hf := hf.2 c26
      refine v_goto 189 dX2_spreads_76 (by decide) ?_
      refine v_iinc (i := 5) (v := i_5 + (1 : Int32)) (lv' := [(0, .ref a0), (3, .int i_3), (4, .int i_4), (5, .int (i_5 + (1 : Int32)))]) dX2_spreads_189 rfl rfl (Nat.le_of_ble_eq_true rfl) rfl rfl ?_
      refine v_goto 50 dX2_spreads_192 (by decide) ?_
      exact V.weak hf (by omega) (by omega)
def g_X2_spreads_116 (G : Gt) (E : Ev) (h : Hp) (k n : Nat) (a0 : Nat) (i_3 : Int32) (i_4 : Int32) (i_5 : Int32) (i_6 : Int32) (K : Hp → Prop) : Prop :=
gR h (some a0) 2 0 fun r1 =>
aI h r1 0 (1 : Int32) fun i12 =>
((i12 ≤ i_6 → V G E Y_X2_spreads cX2_spreads 7 (QM G E (kV K) xN) h k n 50 [(0, .ref a0), (3, .int i_3), (4, .int i_4), (5, .int (i_5 + (1 : Int32)))] []) ∧
(¬ (i12 ≤ i_6) → rv h (some a0) 2 (f_X2_isOpenTo G h (some a0) i_5 i_6 (fun i18 h17 =>
((i18 = 0 → V G E Y_X2_spreads cX2_spreads 7 (QM G E (kV K) xN) h17 k n 116 [(0, .ref a0), (3, .int i_3), (4, .int i_4), (5, .int i_5), (6, .int (i_6 + (1 : Int32)))] []) ∧
(¬ (i18 = 0) → gR h17 (some a0) 2 13 fun r20 =>
rv h17 (some a0) 2 (f_X2_comesBy G h17 (some a0) i_5 i_6 (fun i29 h28 =>
gR h28 (some a0) 2 13 fun r30 =>
rv h28 (some a0) 2 (f_X2_comesBy G h28 (some a0) i_5 i_6 (fun i39 h38 =>
aI h38 r30 0 i39 fun i46 =>
gR h38 (some a0) 2 13 fun r47 =>
aI h38 r47 0 i_5 fun i58 =>
rv h38 (some a0) 2 (f_X2_needs G h38 (some a0) (i_5 / (2 : Int32)) (fun i63 h62 =>
f_X2_least G h62 i46 (i58 + i63) (fun i65 h64 =>
sI h64 r20 i29 i65 fun h71 =>
V G E Y_X2_spreads cX2_spreads 7 (QM G E (kV K) xN) h71 k n 116 [(0, .ref a0), (3, .int i_3), (4, .int i_4), (5, .int i_5), (6, .int (i_6 + (1 : Int32)))] [])))))))))))))
theorem s_X2_spreads_116 {G : Gt} {E : Ev} {h : Hp} {k0 n0 : Nat} {a0 : Nat} {i_3 : Int32} {i_4 : Int32} {i_5 : Int32} {i_6 : Int32} {K : Hp → Prop} (hG : Base G) (hA : 0 ≤ k0) (hB : 0 ≤ n0) (hf : g_X2_spreads_116 G E h (k0 - 0) (n0 - 0) a0 i_3 i_4 i_5 i_6 K) : V G E Y_X2_spreads cX2_spreads 7 (QM G E (kV K) xN) h k0 n0 116 [(0, .ref a0), (3, .int i_3), (4, .int i_4), (5, .int i_5), (6, .int i_6)] [] := by
  obtain ⟨k, hk9⟩ : ∃ z, z = k0 - 0 := ⟨_, rfl⟩
  obtain ⟨n, hn9⟩ : ∃ z, z = n0 - 0 := ⟨_, rfl⟩
  rw [← hk9, ← hn9] at hf
  refine V.weak (k' := k + 0) (n' := n + 0) ?_ (by omega) (by omega)
  unfold g_X2_spreads_116 at hf
  refine v_iload (i := 6) dX2_spreads_116 rfl ?_
  refine v_aload_n (i := 0) dX2_spreads_118 rfl rfl ?_
  replace hf := gR_e hf
  obtain ⟨w2, fs3, r1, hh4, hk5, hf⟩ := hf
  refine v_getf (T := TX2) (ci := 2) 0 dX2_spreads_119 q2488 rfl in_X2 (Nat.le_of_ble_eq_true rfl) (Or.inl rfl) hh4 hk5 ?_
  refine v_iconst (v := 1) dX2_spreads_122 (by decide) ?_
  obtain ⟨a6, rfl⟩ := aI_s hf
  replace hf := aI_e hf
  obtain ⟨w7, N8, f9, hh10, hi11, i12, ei12, hf⟩ := hf
  refine v_iald dX2_spreads_123 hh10 hi11 ?_
  rw [← ei12]
  refine v_icmp_ge 189 dX2_spreads_124 (by decide) (fun c13 => ?_) (fun c13 => ?_)
  · replace hf := hf.1 c13
    refine v_iinc (i := 5) (v := i_5 + (1 : Int32)) (lv' := [(0, .ref a0), (3, .int i_3), (4, .int i_4), (5, .int (i_5 + (1 : Int32))), (6, .int i_6)]) dX2_spreads_189 rfl rfl (Nat.le_of_ble_eq_true rfl) rfl rfl ?_
    refine v_goto 50 dX2_spreads_192 (by decide) ?_
    refine V.lp (lv' := [(0, .ref a0), (3, .int i_3), (4, .int i_4), (5, .int (i_5 + (1 : Int32)))]) [0, 1, 2, 3] rfl ?_
    exact V.weak hf (by omega) (by omega)
  · replace hf := hf.2 c13
    refine v_aload_n (i := 0) dX2_spreads_127 rfl rfl ?_
    refine v_iload (i := 5) dX2_spreads_128 rfl ?_
    refine v_iload (i := 6) dX2_spreads_130 rfl ?_
    replace hf := rv_e hf
    obtain ⟨w14, fs15, hh16, hf⟩ := hf
    refine V.addK0 ?_
    refine V.addN0 ?_
    refine v_callV (mc := 0) (ms := 0) 2 dX2_spreads_132 (m_X2_isOpenTo hG hf) rfl hh16 rfl (lw_V q2658 q2660 qs62 q98 q2661) rfl (by decide +kernel) (by decide) rfl (cat_len (Nat.le_of_ble_eq_true rfl)) (kk_I fun i18 h17 hg => ?_) (fun _ _ _ hx => hx.elim)
    replace hf := hg
    clear hg
    refine v_if_eq 183 dX2_spreads_135 (by decide) (fun c19 => ?_) (fun c19 => ?_)
    · replace hf := hf.1 c19
      refine v_iinc (i := 6) (v := i_6 + (1 : Int32)) (lv' := [(0, .ref a0), (3, .int i_3), (4, .int i_4), (5, .int i_5), (6, .int (i_6 + (1 : Int32)))]) dX2_spreads_183 rfl rfl (Nat.le_of_ble_eq_true rfl) rfl rfl ?_
      refine v_goto 116 dX2_spreads_186 (by decide) ?_
      exact V.weak hf (by omega) (by omega)
    · replace hf := hf.2 c19
      refine v_aload_n (i := 0) dX2_spreads_138 rfl rfl ?_
      replace hf := gR_e hf
      obtain ⟨w21, fs22, r20, hh23, hk24, hf⟩ := hf
      refine v_getf (T := TX2) (ci := 2) 13 dX2_spreads_139 q2501 rfl in_X2 (Nat.le_of_ble_eq_true rfl) (Or.inl rfl) hh23 hk24 ?_
      refine v_aload_n (i := 0) dX2_spreads_142 rfl rfl ?_
      refine v_iload (i := 5) dX2_spreads_143 rfl ?_
      refine v_iload (i := 6) dX2_spreads_145 rfl ?_
      replace hf := rv_e hf
      obtain ⟨w25, fs26, hh27, hf⟩ := hf
      refine V.addK0 ?_
      refine V.addN0 ?_
      refine v_callV (mc := 0) (ms := 0) 2 dX2_spreads_147 (m_X2_comesBy hG hf) rfl hh27 rfl (lw_V q2662 q2664 qs63 q98 q2665) rfl (by decide +kernel) (by decide) rfl (cat_len (Nat.le_of_ble_eq_true rfl)) (kk_I fun i29 h28 hg => ?_) (fun _ _ _ hx => hx.elim)
      replace hf := hg
      clear hg
      refine v_aload_n (i := 0) dX2_spreads_150 rfl rfl ?_
      replace hf := gR_e hf
      obtain ⟨w31, fs32, r30, hh33, hk34, hf⟩ := hf
      refine v_getf (T := TX2) (ci := 2) 13 dX2_spreads_151 q2501 rfl in_X2 (Nat.le_of_ble_eq_true rfl) (Or.inl rfl) hh33 hk34 ?_
      refine v_aload_n (i := 0) dX2_spreads_154 rfl rfl ?_
      refine v_iload (i := 5) dX2_spreads_155 rfl ?_
      refine v_iload (i := 6) dX2_spreads_157 rfl ?_
      replace hf := rv_e hf
      obtain ⟨w35, fs36, hh37, hf⟩ := hf
      refine V.addK0 ?_
      refine V.addN0 ?_
      refine v_callV (mc := 0) (ms := 0) 2 dX2_spreads_159 (m_X2_comesBy hG hf) rfl hh37 rfl (lw_V q2662 q2664 qs63 q98 q2665) rfl (by decide +kernel) (by decide) rfl (cat_len (Nat.le_of_ble_eq_true rfl)) (kk_I fun i39 h38 hg => ?_) (fun _ _ _ hx => hx.elim)
      replace hf := hg
      clear hg
      obtain ⟨a40, rfl⟩ := aI_s hf
      replace hf := aI_e hf
      obtain ⟨w41, N42, f43, hh44, hi45, i46, ei46, hf⟩ := hf
      refine v_iald dX2_spreads_162 hh44 hi45 ?_
      rw [← ei46]
      refine v_aload_n (i := 0) dX2_spreads_163 rfl rfl ?_
      replace hf := gR_e hf
      obtain ⟨w48, fs49, r47, hh50, hk51, hf⟩ := hf
      refine v_getf (T := TX2) (ci := 2) 13 dX2_spreads_164 q2501 rfl in_X2 (Nat.le_of_ble_eq_true rfl) (Or.inl rfl) hh50 hk51 ?_
      refine v_iload (i := 5) dX2_spreads_167 rfl ?_
      obtain ⟨a52, rfl⟩ := aI_s hf
      replace hf := aI_e hf
      obtain ⟨w53, N54, f55, hh56, hi57, i58, ei58, hf⟩ := hf
      refine v_iald dX2_spreads_169 hh56 hi57 ?_
      rw [← ei58]
      refine v_aload_n (i := 0) dX2_spreads_170 rfl rfl ?_
      refine v_iload (i := 5) dX2_spreads_171 rfl ?_
      refine v_iconst (v := 2) dX2_spreads_173 (by decide) ?_
      refine v_idiv dX2_spreads_174 (by decide) ?_
      replace hf := rv_e hf
      obtain ⟨w59, fs60, hh61, hf⟩ := hf
      refine V.addK0 ?_
      refine V.addN0 ?_
      refine v_callV (mc := 0) (ms := 0) 1 dX2_spreads_175 (m_X2_needs hG hf) rfl hh61 rfl (lw_V q2610 q2612 qs55 q98 q2613) rfl (by decide +kernel) (by decide) rfl (cat_len (Nat.le_of_ble_eq_true rfl)) (kk_I fun i63 h62 hg => ?_) (fun _ _ _ hx => hx.elim)
      replace hf := hg
      clear hg
      refine v_iadd dX2_spreads_178 ?_
      refine V.addK0 ?_
      refine V.addN0 ?_
      refine v_callS (mc := 0) (ms := 0) 2 dX2_spreads_179 (m_X2_least hG hf) rfl (lw_S q2577 q2578 q98 q2579) rfl (by decide +kernel) (by decide) rfl (cat_len (Nat.le_of_ble_eq_true rfl)) (kk_I fun i65 h64 hg => ?_) (fun _ _ _ hx => hx.elim)
      replace hf := hg
      clear hg
      obtain ⟨a66, rfl⟩ := sI_s hf
      replace hf := sI_e hf
      obtain ⟨N67, f68, hh69, hi70, hf⟩ := hf
      refine v_iast dX2_spreads_182 hh69 hi70 ?_
      obtain ⟨h71, eh71⟩ : ∃ z, z = hs h64 a66 (true, .inl (0, N67, .inl (upd f68 (i29).toNatClampNeg (i65)))) := ⟨_, rfl⟩
      try rw [← eh71] at hf
      rw [← eh71]
      refine v_iinc (i := 6) (v := i_6 + (1 : Int32)) (lv' := [(0, .ref a0), (3, .int i_3), (4, .int i_4), (5, .int i_5), (6, .int (i_6 + (1 : Int32)))]) dX2_spreads_183 rfl rfl (Nat.le_of_ble_eq_true rfl) rfl rfl ?_
      refine v_goto 116 dX2_spreads_186 (by decide) ?_
      exact V.weak hf (by omega) (by omega)
theorem b_X2_spreads {G : Gt} {h : Hp} {mc ms : Nat} {a0 : Nat} {i_1 : Int32} {i_2 : Int32} {i_3 : Int32} {K : Hp → Prop} (hG : Base G) (hf : ∀ E : Ev, V G E Y_X2_spreads cX2_spreads 7 (QM G E (kV K) xN) h mc ms 0 [(0, .ref a0), (1, .int i_1), (2, .int i_2), (3, .int i_3)] []) : MM G Y_X2_spreads cX2_spreads 7 mc ms [.ref a0, .int i_1, .int i_2, .int i_3] h (kV K) xN := mm_of hG (by decide +kernel) rfl (ac_c rfl (ac_c rfl (ac_c rfl (ac_c rfl ac_nil)))) (Nat.le_of_ble_eq_true rfl) (fun E _ _ => hf E)
abbrev Y_X2_fewest : Yt := (yX2_fewest, some (.int), 2, 61, [])
def f_X2_fewest (G : Gt) (h : Hp) (t_0 : Option Nat) (i_1 : Int32) (K : Int32 → Hp → Prop) : Prop :=
gR h t_0 2 13 fun r1 =>
aI h r1 0 ((2 : Int32) * i_1) fun i12 =>
gR h t_0 2 13 fun r13 =>
aI h r13 0 (((2 : Int32) * i_1) + (1 : Int32)) fun i24 =>
f_X2_least G h i12 i24 (fun i26 h25 =>
K i26 h25)
theorem m_X2_fewest {G : Gt} {h : Hp} {a0 : Nat} {i_1 : Int32} {K : Int32 → Hp → Prop} (hG : Base G) (hf : f_X2_fewest G h (some a0) i_1 K) : MM G Y_X2_fewest cX2_fewest 2 0 0 [.ref a0, .int i_1] h (kI K) xN := by
  refine mm_of hG (by decide +kernel) rfl (ac_c rfl (ac_c rfl ac_nil)) (Nat.le_of_ble_eq_true rfl) (fun E _ _ => ?_)
  show V G E Y_X2_fewest cX2_fewest 2 (QM G E (kI K) xN) h 0 0 0 [(0, .ref a0), (1, .int i_1)] []
  unfold f_X2_fewest at hf
  refine v_qload_n (r := (some a0)) (i := 0) dX2_fewest_0 rfl rfl ?_
  replace hf := gR_e hf
  obtain ⟨w2, fs3, r1, hh4, hk5, hf⟩ := hf
  refine v_getf (T := TX2) (ci := 2) 13 dX2_fewest_1 q2501 rfl in_X2 (Nat.le_of_ble_eq_true rfl) (Or.inl rfl) hh4 hk5 ?_
  refine v_iconst (v := 2) dX2_fewest_4 (by decide) ?_
  refine v_iload_n (i := 1) dX2_fewest_5 rfl rfl ?_
  refine v_imul dX2_fewest_6 ?_
  obtain ⟨a6, rfl⟩ := aI_s hf
  replace hf := aI_e hf
  obtain ⟨w7, N8, f9, hh10, hi11, i12, ei12, hf⟩ := hf
  refine v_iald dX2_fewest_7 hh10 hi11 ?_
  rw [← ei12]
  refine v_qload_n (r := (some a0)) (i := 0) dX2_fewest_8 rfl rfl ?_
  replace hf := gR_e hf
  obtain ⟨w14, fs15, r13, hh16, hk17, hf⟩ := hf
  refine v_getf (T := TX2) (ci := 2) 13 dX2_fewest_9 q2501 rfl in_X2 (Nat.le_of_ble_eq_true rfl) (Or.inl rfl) hh16 hk17 ?_
  refine v_iconst (v := 2) dX2_fewest_12 (by decide) ?_
  refine v_iload_n (i := 1) dX2_fewest_13 rfl rfl ?_
  refine v_imul dX2_fewest_14 ?_
  refine v_iconst (v := 1) dX2_fewest_15 (by decide) ?_
  refine v_iadd dX2_fewest_16 ?_
  obtain ⟨a18, rfl⟩ := aI_s hf
  replace hf := aI_e hf
  obtain ⟨w19, N20, f21, hh22, hi23, i24, ei24, hf⟩ := hf
  refine v_iald dX2_fewest_17 hh22 hi23 ?_
  rw [← ei24]
  refine V.addK0 ?_
  refine V.addN0 ?_
  refine v_callS (mc := 0) (ms := 0) 2 dX2_fewest_18 (m_X2_least hG hf) rfl (lw_S q2577 q2578 q98 q2579) rfl (by decide +kernel) (by decide) rfl (cat_len (Nat.le_of_ble_eq_true rfl)) (kk_I fun i26 h25 hg => ?_) (fun _ _ _ hx => hx.elim)
  replace hf := hg
  clear hg
  exact v_iret dX2_fewest_21 rfl ⟨_, rfl, hf⟩
abbrev Y_X2_way : Yt := (yX2_way, some (.int), 5, 132, [])
def f_X2_way (G : Gt) (h : Hp) (k n : Nat) (t_0 : Option Nat) (i_1 : Int32) (i_2 : Int32) (i_3 : Int32) (K : Int32 → Hp → Prop) : Prop :=
rv h t_0 2 (f_X2_areRooms G h t_0 i_1 i_2 (fun i5 h4 =>
((¬ (i5 = 0) → f_X2_in G h4 i_3 (0 : Int32) (1 : Int32) (fun i8 h7 =>
((¬ (i8 = 0) → rv h7 t_0 2 (dV G Y_X2_spreads cX2_spreads 7 [va_rf t_0, .int i_1, .int i_3, .int (1 : Int32)] h7 k n (fun h13 k16 n17 =>
rv h13 t_0 2 (f_X2_fewest G h13 t_0 i_2 (fun i22 h21 =>
((¬ (i22 = (9999 : Int32)) → rv h21 t_0 2 (f_X2_fewest G h21 t_0 i_2 (fun i28 h27 =>
K i28 h27))) ∧
(i22 = (9999 : Int32) → K (-1015 : Int32) h21))))) xN)) ∧
(i8 = 0 → K (-1012 : Int32) h7)))) ∧
(i5 = 0 → K (-1011 : Int32) h4))))
theorem m_X2_way {G : Gt} {h : Hp} {mc ms : Nat} {a0 : Nat} {i_1 : Int32} {i_2 : Int32} {i_3 : Int32} {K : Int32 → Hp → Prop} (hG : Base G) (hA : 0 ≤ mc) (hB : 0 ≤ ms) (hf : f_X2_way G h (mc - 0) (ms - 0) (some a0) i_1 i_2 i_3 K) : MM G Y_X2_way cX2_way 4 mc ms [.ref a0, .int i_1, .int i_2, .int i_3] h (kI K) xN := by
  refine mm_of hG (by decide +kernel) rfl (ac_c rfl (ac_c rfl (ac_c rfl (ac_c rfl ac_nil)))) (Nat.le_of_ble_eq_true rfl) (fun E _ _ => ?_)
  obtain ⟨k, hk9⟩ : ∃ z, z = mc - 0 := ⟨_, rfl⟩
  obtain ⟨n, hn9⟩ : ∃ z, z = ms - 0 := ⟨_, rfl⟩
  rw [← hk9, ← hn9] at hf
  refine V.weak (k' := k + 0) (n' := n + 0) ?_ (by omega) (by omega)
  show V G E Y_X2_way cX2_way 4 (QM G E (kI K) xN) h (k + 0) (n + 0) 0 [(0, .ref a0), (1, .int i_1), (2, .int i_2), (3, .int i_3)] []
  unfold f_X2_way at hf
  refine v_qload_n (r := (some a0)) (i := 0) dX2_way_0 rfl rfl ?_
  refine v_iload_n (i := 1) dX2_way_1 rfl rfl ?_
  refine v_iload_n (i := 2) dX2_way_2 rfl rfl ?_
  replace hf := rv_e hf
  obtain ⟨w1, fs2, hh3, hf⟩ := hf
  refine V.addK0 ?_
  refine V.addN0 ?_
  refine v_callV (mc := 0) (ms := 0) 2 dX2_way_3 (m_X2_areRooms hG hf) rfl hh3 rfl (lw_V q2650 q2652 qs60 q98 q2653) rfl (by decide +kernel) (by decide) rfl (cat_len (Nat.le_of_ble_eq_true rfl)) (kk_I fun i5 h4 hg => ?_) (fun _ _ _ hx => hx.elim)
  replace hf := hg
  clear hg
  refine v_if_ne 13 dX2_way_6 (by decide) (fun c6 => ?_) (fun c6 => ?_)
  · replace hf := hf.1 c6
    refine v_iload_n (i := 3) dX2_way_13 rfl rfl ?_
    refine v_iconst (v := 0) dX2_way_14 (by decide) ?_
    refine v_iconst (v := 1) dX2_way_15 (by decide) ?_
    refine V.addK0 ?_
    refine V.addN0 ?_
    refine v_callS (mc := 0) (ms := 0) 3 dX2_way_16 (m_X2_in hG hf) rfl (lw_S q2547 q2548 q98 q2549) rfl (by decide +kernel) (by decide) rfl (cat_len (Nat.le_of_ble_eq_true rfl)) (kk_I fun i8 h7 hg => ?_) (fun _ _ _ hx => hx.elim)
    replace hf := hg
    clear hg
    refine v_if_ne 26 dX2_way_19 (by decide) (fun c9 => ?_) (fun c9 => ?_)
    · replace hf := hf.1 c9
      refine v_qload_n (r := (some a0)) (i := 0) dX2_way_26 rfl rfl ?_
      refine v_iload_n (i := 1) dX2_way_27 rfl rfl ?_
      refine v_iload_n (i := 3) dX2_way_28 rfl rfl ?_
      refine v_iconst (v := 1) dX2_way_29 (by decide) ?_
      replace hf := rv_e hf
      obtain ⟨w10, fs11, hh12, hf⟩ := hf
      obtain ⟨mc14, ms15, hkmc14, hnms15, hM⟩ := hf
      refine V.weak (k' := ((k - mc14) + 0) + mc14) (n' := ((n - ms15) + 0) + ms15) ?_ (by omega) (by omega)
      refine v_callV 3 dX2_way_30 hM rfl hh12 rfl (lw_V q2654 q2656 qs61 q98 q2657) rfl (by decide +kernel) (by decide) rfl (cat_len (Nat.le_of_ble_eq_true rfl)) (kk_V fun h13 hg => ?_) (fun _ _ _ hx => hx.elim)
      have hf := hg
      clear hg
      refine v_qload_n (r := (some a0)) (i := 0) dX2_way_33 rfl rfl ?_
      refine v_iload_n (i := 2) dX2_way_34 rfl rfl ?_
      replace hf := rv_e hf
      obtain ⟨w18, fs19, hh20, hf⟩ := hf
      refine V.addK0 ?_
      refine V.addN0 ?_
      refine v_callV (mc := 0) (ms := 0) 1 dX2_way_35 (m_X2_fewest hG hf) rfl hh20 rfl (lw_V q2666 q2668 qs64 q98 q2669) rfl (by decide +kernel) (by decide) rfl (cat_len (Nat.le_of_ble_eq_true rfl)) (kk_I fun i22 h21 hg => ?_) (fun _ _ _ hx => hx.elim)
      replace hf := hg
      clear hg
      refine v_sipush (v := 9999) dX2_way_38 (by decide) ?_
      refine v_icmp_ne 50 dX2_way_41 (by decide) (fun c23 => ?_) (fun c23 => ?_)
      · replace hf := hf.1 c23
        refine v_qload_n (r := (some a0)) (i := 0) dX2_way_50 rfl rfl ?_
        refine v_iload_n (i := 2) dX2_way_51 rfl rfl ?_
        replace hf := rv_e hf
        obtain ⟨w24, fs25, hh26, hf⟩ := hf
        refine V.addK0 ?_
        refine V.addN0 ?_
        refine v_callV (mc := 0) (ms := 0) 1 dX2_way_52 (m_X2_fewest hG hf) rfl hh26 rfl (lw_V q2666 q2668 qs64 q98 q2669) rfl (by decide +kernel) (by decide) rfl (cat_len (Nat.le_of_ble_eq_true rfl)) (kk_I fun i28 h27 hg => ?_) (fun _ _ _ hx => hx.elim)
        replace hf := hg
        clear hg
        exact v_iret dX2_way_55 rfl ⟨_, rfl, hf⟩
      · replace hf := hf.2 c23
        refine v_sipush (v := -1015) dX2_way_44 (by decide) ?_
        refine v_goto 55 dX2_way_47 (by decide) ?_
        exact v_iret dX2_way_55 rfl ⟨_, rfl, hf⟩
    · replace hf := hf.2 c9
      refine v_sipush (v := -1012) dX2_way_22 (by decide) ?_
      exact v_iret dX2_way_25 rfl ⟨_, rfl, hf⟩
  · replace hf := hf.2 c6
    refine v_sipush (v := -1011) dX2_way_9 (by decide) ?_
    exact v_iret dX2_way_12 rfl ⟨_, rfl, hf⟩
abbrev Y_X2_wayAgain : Yt := (yX2_wayAgain, some (.int), 6, 155, [])
def f_X2_wayAgain (G : Gt) (h : Hp) (k n : Nat) (t_0 : Option Nat) (i_1 : Int32) (i_2 : Int32) (i_3 : Int32) (K : Int32 → Hp → Prop) : Prop :=
rv h t_0 2 (dI G Y_X2_way cX2_way 4 [va_rf t_0, .int i_1, .int i_2, .int i_3] h k n (fun i5 h4 k8 n9 =>
K i5 h4) xN)
theorem m_X2_wayAgain {G : Gt} {h : Hp} {mc ms : Nat} {a0 : Nat} {i_1 : Int32} {i_2 : Int32} {i_3 : Int32} {K : Int32 → Hp → Prop} (hG : Base G) (hA : 0 ≤ mc) (hB : 0 ≤ ms) (hf : f_X2_wayAgain G h (mc - 0) (ms - 0) (some a0) i_1 i_2 i_3 K) : MM G Y_X2_wayAgain cX2_wayAgain 4 mc ms [.ref a0, .int i_1, .int i_2, .int i_3] h (kI K) xN := by
  refine mm_of hG (by decide +kernel) rfl (ac_c rfl (ac_c rfl (ac_c rfl (ac_c rfl ac_nil)))) (Nat.le_of_ble_eq_true rfl) (fun E _ _ => ?_)
  obtain ⟨k, hk9⟩ : ∃ z, z = mc - 0 := ⟨_, rfl⟩
  obtain ⟨n, hn9⟩ : ∃ z, z = ms - 0 := ⟨_, rfl⟩
  rw [← hk9, ← hn9] at hf
  refine V.weak (k' := k + 0) (n' := n + 0) ?_ (by omega) (by omega)
  show V G E Y_X2_wayAgain cX2_wayAgain 4 (QM G E (kI K) xN) h (k + 0) (n + 0) 0 [(0, .ref a0), (1, .int i_1), (2, .int i_2), (3, .int i_3)] []
  unfold f_X2_wayAgain at hf
  refine v_qload_n (r := (some a0)) (i := 0) dX2_wayAgain_0 rfl rfl ?_
  refine v_iload_n (i := 1) dX2_wayAgain_1 rfl rfl ?_
  refine v_iload_n (i := 2) dX2_wayAgain_2 rfl rfl ?_
  refine v_iload_n (i := 3) dX2_wayAgain_3 rfl rfl ?_
  replace hf := rv_e hf
  obtain ⟨w1, fs2, hh3, hf⟩ := hf
  obtain ⟨mc6, ms7, hkmc6, hnms7, hM⟩ := hf
  refine V.weak (k' := ((k - mc6) + 0) + mc6) (n' := ((n - ms7) + 0) + ms7) ?_ (by omega) (by omega)
  refine v_callV 3 dX2_wayAgain_4 hM rfl hh3 rfl (lw_V q2674 q2647 q2648 q98 q2649) rfl (by decide +kernel) (by decide) rfl (cat_len (Nat.le_of_ble_eq_true rfl)) (kk_I fun i5 h4 hg => ?_) (fun _ _ _ hx => hx.elim)
  have hf := hg
  clear hg
  exact v_iret dX2_wayAgain_7 rfl ⟨_, rfl, hf⟩
abbrev Y_X2_looksBack : Yt := (yX2_looksBack, none, 4, 106, [])
def g_X2_looksBack_0 (G : Gt) (E : Ev) (h : Hp) (k n : Nat) (a0 : Nat) (i_1 : Int32) (K : Hp → Prop) : Prop :=
V G E Y_X2_looksBack cX2_looksBack 5 (QM G E (kV K) xN) h k n 2 [(0, .ref a0), (1, .int i_1), (2, .int (0 : Int32))] []
theorem s_X2_looksBack_0 {G : Gt} {E : Ev} {h : Hp} {k0 n0 : Nat} {a0 : Nat} {i_1 : Int32} {K : Hp → Prop} (hG : Base G) (hA : 0 ≤ k0) (hB : 0 ≤ n0) (hf : g_X2_looksBack_0 G E h (k0 - 0) (n0 - 0) a0 i_1 K) : V G E Y_X2_looksBack cX2_looksBack 5 (QM G E (kV K) xN) h k0 n0 0 [(0, .ref a0), (1, .int i_1)] [] := by
  obtain ⟨k, hk9⟩ : ∃ z, z = k0 - 0 := ⟨_, rfl⟩
  obtain ⟨n, hn9⟩ : ∃ z, z = n0 - 0 := ⟨_, rfl⟩
  rw [← hk9, ← hn9] at hf
  refine V.weak (k' := k + 0) (n' := n + 0) ?_ (by omega) (by omega)
  unfold g_X2_looksBack_0 at hf
  refine v_iconst (v := 0) dX2_looksBack_0 (by decide) ?_
  refine v_istore_n (i := 2) (lv' := [(0, .ref a0), (1, .int i_1), (2, .int (0 : Int32))]) dX2_looksBack_1 rfl (Nat.le_of_ble_eq_true rfl) rfl rfl ?_
  exact V.weak hf (by omega) (by omega)
def g_X2_looksBack_2 (G : Gt) (E : Ev) (h : Hp) (k n : Nat) (a0 : Nat) (i_1 : Int32) (i_2 : Int32) (K : Hp → Prop) : Prop :=
(((20 : Int32) ≤ i_2 → V G E Y_X2_looksBack cX2_looksBack 5 (QM G E (kV K) xN) h k n 36 [(0, .ref a0), (2, .int (0 : Int32))] []) ∧
(¬ ((20 : Int32) ≤ i_2) → gR h (some a0) 2 14 fun r2 =>
((¬ (i_2 / (2 : Int32) = i_1) → sI h r2 i_2 (9999 : Int32) fun h13 =>
V G E Y_X2_looksBack cX2_looksBack 5 (QM G E (kV K) xN) h13 k n 2 [(0, .ref a0), (1, .int i_1), (2, .int (i_2 + (1 : Int32)))] []) ∧
(i_2 / (2 : Int32) = i_1 → sI h r2 i_2 (0 : Int32) fun h19 =>
V G E Y_X2_looksBack cX2_looksBack 5 (QM G E (kV K) xN) h19 k n 2 [(0, .ref a0), (1, .int i_1), (2, .int (i_2 + (1 : Int32)))] []))))
theorem s_X2_looksBack_2 {G : Gt} {E : Ev} {h : Hp} {k0 n0 : Nat} {a0 : Nat} {i_1 : Int32} {i_2 : Int32} {K : Hp → Prop} (hG : Base G) (hA : 0 ≤ k0) (hB : 0 ≤ n0) (hf : g_X2_looksBack_2 G E h (k0 - 0) (n0 - 0) a0 i_1 i_2 K) : V G E Y_X2_looksBack cX2_looksBack 5 (QM G E (kV K) xN) h k0 n0 2 [(0, .ref a0), (1, .int i_1), (2, .int i_2)] [] := by
  obtain ⟨k, hk9⟩ : ∃ z, z = k0 - 0 := ⟨_, rfl⟩
  obtain ⟨n, hn9⟩ : ∃ z, z = n0 - 0 := ⟨_, rfl⟩
  rw [← hk9, ← hn9] at hf
  refine V.weak (k' := k + 0) (n' := n + 0) ?_ (by omega) (by omega)
  unfold g_X2_looksBack_2 at hf
  refine v_iload_n (i := 2) dX2_looksBack_2 rfl rfl ?_
  refine v_bipush (v := 20) dX2_looksBack_3 (by decide) ?_
  refine v_icmp_ge 34 dX2_looksBack_5 (by decide) (fun c1 => ?_) (fun c1 => ?_)
  · replace hf := hf.1 c1
    refine v_iconst (v := 0) dX2_looksBack_34 (by decide) ?_
    refine v_istore_n (i := 2) (lv' := [(0, .ref a0), (1, .int i_1), (2, .int (0 : Int32))]) dX2_looksBack_35 rfl (Nat.le_of_ble_eq_true rfl) rfl rfl ?_
    refine V.lp (lv' := [(0, .ref a0), (2, .int (0 : Int32))]) [0, 2] rfl ?_
    exact V.weak hf (by omega) (by omega)
  · replace hf := hf.2 c1
    refine v_aload_n (i := 0) dX2_looksBack_8 rfl rfl ?_
    replace hf := gR_e hf
    obtain ⟨w3, fs4, r2, hh5, hk6, hf⟩ := hf
    refine v_getf (T := TX2) (ci := 2) 14 dX2_looksBack_9 q2502 rfl in_X2 (Nat.le_of_ble_eq_true rfl) (Or.inl rfl) hh5 hk6 ?_
    refine v_iload_n (i := 2) dX2_looksBack_12 rfl rfl ?_
    refine v_iload_n (i := 2) dX2_looksBack_13 rfl rfl ?_
    refine v_iconst (v := 2) dX2_looksBack_14 (by decide) ?_
    refine v_idiv dX2_looksBack_15 (by decide) ?_
    refine v_iload_n (i := 1) dX2_looksBack_16 rfl rfl ?_
    refine v_icmp_ne 24 dX2_looksBack_17 (by decide) (fun c7 => ?_) (fun c7 => ?_)
    · replace hf := hf.1 c7
      refine v_sipush (v := 9999) dX2_looksBack_24 (by decide) ?_
      obtain ⟨a8, rfl⟩ := sI_s hf
      replace hf := sI_e hf
      obtain ⟨N9, f10, hh11, hi12, hf⟩ := hf
      refine v_iast dX2_looksBack_27 hh11 hi12 ?_
      obtain ⟨h13, eh13⟩ : ∃ z, z = hs h a8 (true, .inl (0, N9, .inl (upd f10 (i_2).toNatClampNeg ((9999 : Int32))))) := ⟨_, rfl⟩
      try rw [← eh13] at hf
      rw [← eh13]
      refine v_iinc (i := 2) (v := i_2 + (1 : Int32)) (lv' := [(0, .ref a0), (1, .int i_1), (2, .int (i_2 + (1 : Int32)))]) dX2_looksBack_28 rfl rfl (Nat.le_of_ble_eq_true rfl) rfl rfl ?_
      refine v_goto 2 dX2_looksBack_31 (by decide) ?_
      exact V.weak hf (by omega) (by omega)
    · replace hf := hf.2 c7
      refine v_iconst (v := 0) dX2_looksBack_20 (by decide) ?_
      refine v_goto 27 dX2_looksBack_21 (by decide) ?_
      obtain ⟨a14, rfl⟩ := sI_s hf
      replace hf := sI_e hf
      obtain ⟨N15, f16, hh17, hi18, hf⟩ := hf
      refine v_iast dX2_looksBack_27 hh17 hi18 ?_
      obtain ⟨h19, eh19⟩ : ∃ z, z = hs h a14 (true, .inl (0, N15, .inl (upd f16 (i_2).toNatClampNeg ((0 : Int32))))) := ⟨_, rfl⟩
      try rw [← eh19] at hf
      rw [← eh19]
      refine v_iinc (i := 2) (v := i_2 + (1 : Int32)) (lv' := [(0, .ref a0), (1, .int i_1), (2, .int (i_2 + (1 : Int32)))]) dX2_looksBack_28 rfl rfl (Nat.le_of_ble_eq_true rfl) rfl rfl ?_
      refine v_goto 2 dX2_looksBack_31 (by decide) ?_
      exact V.weak hf (by omega) (by omega)
def g_X2_looksBack_36 (G : Gt) (E : Ev) (h : Hp) (k n : Nat) (a0 : Nat) (i_2 : Int32) (K : Hp → Prop) : Prop :=
(((20 : Int32) ≤ i_2 → K h) ∧
(¬ ((20 : Int32) ≤ i_2) → V G E Y_X2_looksBack cX2_looksBack 5 (QM G E (kV K) xN) h k n 44 [(0, .ref a0), (2, .int i_2), (3, .int (0 : Int32))] []))
theorem s_X2_looksBack_36 {G : Gt} {E : Ev} {h : Hp} {k0 n0 : Nat} {a0 : Nat} {i_2 : Int32} {K : Hp → Prop} (hG : Base G) (hA : 0 ≤ k0) (hB : 0 ≤ n0) (hf : g_X2_looksBack_36 G E h (k0 - 0) (n0 - 0) a0 i_2 K) : V G E Y_X2_looksBack cX2_looksBack 5 (QM G E (kV K) xN) h k0 n0 36 [(0, .ref a0), (2, .int i_2)] [] := by
  obtain ⟨k, hk9⟩ : ∃ z, z = k0 - 0 := ⟨_, rfl⟩
  obtain ⟨n, hn9⟩ : ∃ z, z = n0 - 0 := ⟨_, rfl⟩
  rw [← hk9, ← hn9] at hf
  refine V.weak (k' := k + 0) (n' := n + 0) ?_ (by omega) (by omega)
  unfold g_X2_looksBack_36 at hf
  refine v_iload_n (i := 2) dX2_looksBack_36 rfl rfl ?_
  refine v_bipush (v := 20) dX2_looksBack_37 (by decide) ?_
  refine v_icmp_ge 158 dX2_looksBack_39 (by decide) (fun c1 => ?_) (fun c1 => ?_)
  · replace hf := hf.1 c1
    exact v_vret dX2_looksBack_158 rfl ⟨rfl, hf⟩
  · replace hf := hf.2 c1
    refine v_iconst (v := 0) dX2_looksBack_42 (by decide) ?_
    refine v_istore_n (i := 3) (lv' := [(0, .ref a0), (2, .int i_2), (3, .int (0 : Int32))]) dX2_looksBack_43 rfl (Nat.le_of_ble_eq_true rfl) rfl rfl ?_
    exact V.weak hf (by omega) (by omega)
def g_X2_looksBack_44 (G : Gt) (E : Ev) (h : Hp) (k n : Nat) (a0 : Nat) (i_2 : Int32) (i_3 : Int32) (K : Hp → Prop) : Prop :=
gR h (some a0) 2 0 fun r1 =>
aI h r1 0 (0 : Int32) fun i12 =>
(((2 : Int32) * i12 ≤ i_3 → V G E Y_X2_looksBack cX2_looksBack 5 (QM G E (kV K) xN) h k n 36 [(0, .ref a0), (2, .int (i_2 + (1 : Int32)))] []) ∧
(¬ ((2 : Int32) * i12 ≤ i_3) → gR h (some a0) 2 14 fun r14 =>
gR h (some a0) 2 14 fun r19 =>
aI h r19 0 i_3 fun i30 =>
gR h (some a0) 2 14 fun r31 =>
aI h r31 0 (i_3 ^^^ (1 : Int32)) fun i42 =>
f_X2_least G h i30 (i42 + (1 : Int32)) (fun i44 h43 =>
sI h43 r14 i_3 i44 fun h50 =>
V G E Y_X2_looksBack cX2_looksBack 5 (QM G E (kV K) xN) h50 k n 84 [(0, .ref a0), (2, .int i_2), (3, .int i_3), (4, .int (0 : Int32))] [])))
theorem s_X2_looksBack_44 {G : Gt} {E : Ev} {h : Hp} {k0 n0 : Nat} {a0 : Nat} {i_2 : Int32} {i_3 : Int32} {K : Hp → Prop} (hG : Base G) (hA : 0 ≤ k0) (hB : 0 ≤ n0) (hf : g_X2_looksBack_44 G E h (k0 - 0) (n0 - 0) a0 i_2 i_3 K) : V G E Y_X2_looksBack cX2_looksBack 5 (QM G E (kV K) xN) h k0 n0 44 [(0, .ref a0), (2, .int i_2), (3, .int i_3)] [] := by
  obtain ⟨k, hk9⟩ : ∃ z, z = k0 - 0 := ⟨_, rfl⟩
  obtain ⟨n, hn9⟩ : ∃ z, z = n0 - 0 := ⟨_, rfl⟩
  rw [← hk9, ← hn9] at hf
  refine V.weak (k' := k + 0) (n' := n + 0) ?_ (by omega) (by omega)
  unfold g_X2_looksBack_44 at hf
  refine v_iload_n (i := 3) dX2_looksBack_44 rfl rfl ?_
  refine v_iconst (v := 2) dX2_looksBack_45 (by decide) ?_
  refine v_aload_n (i := 0) dX2_looksBack_46 rfl rfl ?_
  replace hf := gR_e hf
  obtain ⟨w2, fs3, r1, hh4, hk5, hf⟩ := hf
  refine v_getf (T := TX2) (ci := 2) 0 dX2_looksBack_47 q2488 rfl in_X2 (Nat.le_of_ble_eq_true rfl) (Or.inl rfl) hh4 hk5 ?_
  refine v_iconst (v := 0) dX2_looksBack_50 (by decide) ?_
  obtain ⟨a6, rfl⟩ := aI_s hf
  replace hf := aI_e hf
  obtain ⟨w7, N8, f9, hh10, hi11, i12, ei12, hf⟩ := hf
  refine v_iald dX2_looksBack_51 hh10 hi11 ?_
  rw [← ei12]
  refine v_imul dX2_looksBack_52 ?_
  refine v_icmp_ge 152 dX2_looksBack_53 (by decide) (fun c13 => ?_) (fun c13 => ?_)
  · replace hf := hf.1 c13
    refine v_iinc (i := 2) (v := i_2 + (1 : Int32)) (lv' := [(0, .ref a0), (2, .int (i_2 + (1 : Int32))), (3, .int i_3)]) dX2_looksBack_152 rfl rfl (Nat.le_of_ble_eq_true rfl) rfl rfl ?_
    refine v_goto 36 dX2_looksBack_155 (by decide) ?_
    refine V.lp (lv' := [(0, .ref a0), (2, .int (i_2 + (1 : Int32)))]) [0, 1] rfl ?_
    exact V.weak hf (by omega) (by omega)
  · replace hf := hf.2 c13
    refine v_aload_n (i := 0) dX2_looksBack_56 rfl rfl ?_
    replace hf := gR_e hf
    obtain ⟨w15, fs16, r14, hh17, hk18, hf⟩ := hf
    refine v_getf (T := TX2) (ci := 2) 14 dX2_looksBack_57 q2502 rfl in_X2 (Nat.le_of_ble_eq_true rfl) (Or.inl rfl) hh17 hk18 ?_
    refine v_iload_n (i := 3) dX2_looksBack_60 rfl rfl ?_
    refine v_aload_n (i := 0) dX2_looksBack_61 rfl rfl ?_
    replace hf := gR_e hf
    obtain ⟨w20, fs21, r19, hh22, hk23, hf⟩ := hf
    refine v_getf (T := TX2) (ci := 2) 14 dX2_looksBack_62 q2502 rfl in_X2 (Nat.le_of_ble_eq_true rfl) (Or.inl rfl) hh22 hk23 ?_
    refine v_iload_n (i := 3) dX2_looksBack_65 rfl rfl ?_
    obtain ⟨a24, rfl⟩ := aI_s hf
    replace hf := aI_e hf
    obtain ⟨w25, N26, f27, hh28, hi29, i30, ei30, hf⟩ := hf
    refine v_iald dX2_looksBack_66 hh28 hi29 ?_
    rw [← ei30]
    refine v_aload_n (i := 0) dX2_looksBack_67 rfl rfl ?_
    replace hf := gR_e hf
    obtain ⟨w32, fs33, r31, hh34, hk35, hf⟩ := hf
    refine v_getf (T := TX2) (ci := 2) 14 dX2_looksBack_68 q2502 rfl in_X2 (Nat.le_of_ble_eq_true rfl) (Or.inl rfl) hh34 hk35 ?_
    refine v_iload_n (i := 3) dX2_looksBack_71 rfl rfl ?_
    refine v_iconst (v := 1) dX2_looksBack_72 (by decide) ?_
    refine v_ixor dX2_looksBack_73 ?_
    obtain ⟨a36, rfl⟩ := aI_s hf
    replace hf := aI_e hf
    obtain ⟨w37, N38, f39, hh40, hi41, i42, ei42, hf⟩ := hf
    refine v_iald dX2_looksBack_74 hh40 hi41 ?_
    rw [← ei42]
    refine v_iconst (v := 1) dX2_looksBack_75 (by decide) ?_
    refine v_iadd dX2_looksBack_76 ?_
    refine V.addK0 ?_
    refine V.addN0 ?_
    refine v_callS (mc := 0) (ms := 0) 2 dX2_looksBack_77 (m_X2_least hG hf) rfl (lw_S q2577 q2578 q98 q2579) rfl (by decide +kernel) (by decide) rfl (cat_len (Nat.le_of_ble_eq_true rfl)) (kk_I fun i44 h43 hg => ?_) (fun _ _ _ hx => hx.elim)
    replace hf := hg
    clear hg
    obtain ⟨a45, rfl⟩ := sI_s hf
    replace hf := sI_e hf
    obtain ⟨N46, f47, hh48, hi49, hf⟩ := hf
    refine v_iast dX2_looksBack_80 hh48 hi49 ?_
    obtain ⟨h50, eh50⟩ : ∃ z, z = hs h43 a45 (true, .inl (0, N46, .inl (upd f47 (i_3).toNatClampNeg (i44)))) := ⟨_, rfl⟩
    try rw [← eh50] at hf
    rw [← eh50]
    refine v_iconst (v := 0) dX2_looksBack_81 (by decide) ?_
    refine v_istore (i := 4) (lv' := [(0, .ref a0), (2, .int i_2), (3, .int i_3), (4, .int (0 : Int32))]) dX2_looksBack_82 (Nat.le_of_ble_eq_true rfl) rfl rfl ?_
    exact V.weak hf (by omega) (by omega)
def g_X2_looksBack_84 (G : Gt) (E : Ev) (h : Hp) (k n : Nat) (a0 : Nat) (i_2 : Int32) (i_3 : Int32) (i_4 : Int32) (K : Hp → Prop) : Prop :=
gR h (some a0) 2 0 fun r1 =>
aI h r1 0 (1 : Int32) fun i12 =>
((i12 ≤ i_4 → V G E Y_X2_looksBack cX2_looksBack 5 (QM G E (kV K) xN) h k n 44 [(0, .ref a0), (2, .int i_2), (3, .int (i_3 + (1 : Int32)))] []) ∧
(¬ (i12 ≤ i_4) → rv h (some a0) 2 (f_X2_isOpenTo G h (some a0) i_3 i_4 (fun i18 h17 =>
((i18 = 0 → V G E Y_X2_looksBack cX2_looksBack 5 (QM G E (kV K) xN) h17 k n 84 [(0, .ref a0), (2, .int i_2), (3, .int i_3), (4, .int (i_4 + (1 : Int32)))] []) ∧
(¬ (i18 = 0) → gR h17 (some a0) 2 14 fun r20 =>
gR h17 (some a0) 2 14 fun r25 =>
aI h17 r25 0 i_3 fun i36 =>
gR h17 (some a0) 2 14 fun r37 =>
rv h17 (some a0) 2 (f_X2_comesBy G h17 (some a0) i_3 i_4 (fun i46 h45 =>
aI h45 r37 0 i46 fun i53 =>
rv h45 (some a0) 2 (f_X2_needs G h45 (some a0) (i_3 / (2 : Int32)) (fun i58 h57 =>
f_X2_least G h57 i36 (i53 + i58) (fun i60 h59 =>
sI h59 r20 i_3 i60 fun h66 =>
V G E Y_X2_looksBack cX2_looksBack 5 (QM G E (kV K) xN) h66 k n 84 [(0, .ref a0), (2, .int i_2), (3, .int i_3), (4, .int (i_4 + (1 : Int32)))] [])))))))))))
theorem s_X2_looksBack_84 {G : Gt} {E : Ev} {h : Hp} {k0 n0 : Nat} {a0 : Nat} {i_2 : Int32} {i_3 : Int32} {i_4 : Int32} {K : Hp → Prop} (hG : Base G) (hA : 0 ≤ k0) (hB : 0 ≤ n0) (hf : g_X2_looksBack_84 G E h (k0 - 0) (n0 - 0) a0 i_2 i_3 i_4 K) : V G E Y_X2_looksBack cX2_looksBack 5 (QM G E (kV K) xN) h k0 n0 84 [(0, .ref a0), (2, .int i_2), (3, .int i_3), (4, .int i_4)] [] := by
  obtain ⟨k, hk9⟩ : ∃ z, z = k0 - 0 := ⟨_, rfl⟩
  obtain ⟨n, hn9⟩ : ∃ z, z = n0 - 0 := ⟨_, rfl⟩
  rw [← hk9, ← hn9] at hf
  refine V.weak (k' := k + 0) (n' := n + 0) ?_ (by omega) (by omega)
  unfold g_X2_looksBack_84 at hf
  refine v_iload (i := 4) dX2_looksBack_84 rfl ?_
  refine v_aload_n (i := 0) dX2_looksBack_86 rfl rfl ?_
  replace hf := gR_e hf
  obtain ⟨w2, fs3, r1, hh4, hk5, hf⟩ := hf
  refine v_getf (T := TX2) (ci := 2) 0 dX2_looksBack_87 q2488 rfl in_X2 (Nat.le_of_ble_eq_true rfl) (Or.inl rfl) hh4 hk5 ?_
  refine v_iconst (v := 1) dX2_looksBack_90 (by decide) ?_
  obtain ⟨a6, rfl⟩ := aI_s hf
  replace hf := aI_e hf
  obtain ⟨w7, N8, f9, hh10, hi11, i12, ei12, hf⟩ := hf
  refine v_iald dX2_looksBack_91 hh10 hi11 ?_
  rw [← ei12]
  refine v_icmp_ge 146 dX2_looksBack_92 (by decide) (fun c13 => ?_) (fun c13 => ?_)
  · replace hf := hf.1 c13
    refine v_iinc (i := 3) (v := i_3 + (1 : Int32)) (lv' := [(0, .ref a0), (2, .int i_2), (3, .int (i_3 + (1 : Int32))), (4, .int i_4)]) dX2_looksBack_146 rfl rfl (Nat.le_of_ble_eq_true rfl) rfl rfl ?_
    refine v_goto 44 dX2_looksBack_149 (by decide) ?_
    refine V.lp (lv' := [(0, .ref a0), (2, .int i_2), (3, .int (i_3 + (1 : Int32)))]) [0, 1, 2] rfl ?_
    exact V.weak hf (by omega) (by omega)
  · replace hf := hf.2 c13
    refine v_aload_n (i := 0) dX2_looksBack_95 rfl rfl ?_
    refine v_iload_n (i := 3) dX2_looksBack_96 rfl rfl ?_
    refine v_iload (i := 4) dX2_looksBack_97 rfl ?_
    replace hf := rv_e hf
    obtain ⟨w14, fs15, hh16, hf⟩ := hf
    refine V.addK0 ?_
    refine V.addN0 ?_
    refine v_callV (mc := 0) (ms := 0) 2 dX2_looksBack_99 (m_X2_isOpenTo hG hf) rfl hh16 rfl (lw_V q2658 q2660 qs62 q98 q2661) rfl (by decide +kernel) (by decide) rfl (cat_len (Nat.le_of_ble_eq_true rfl)) (kk_I fun i18 h17 hg => ?_) (fun _ _ _ hx => hx.elim)
    replace hf := hg
    clear hg
    refine v_if_eq 140 dX2_looksBack_102 (by decide) (fun c19 => ?_) (fun c19 => ?_)
    · replace hf := hf.1 c19
      refine v_iinc (i := 4) (v := i_4 + (1 : Int32)) (lv' := [(0, .ref a0), (2, .int i_2), (3, .int i_3), (4, .int (i_4 + (1 : Int32)))]) dX2_looksBack_140 rfl rfl (Nat.le_of_ble_eq_true rfl) rfl rfl ?_
      refine v_goto 84 dX2_looksBack_143 (by decide) ?_
      exact V.weak hf (by omega) (by omega)
    · replace hf := hf.2 c19
      refine v_aload_n (i := 0) dX2_looksBack_105 rfl rfl ?_
      replace hf := gR_e hf
      obtain ⟨w21, fs22, r20, hh23, hk24, hf⟩ := hf
      refine v_getf (T := TX2) (ci := 2) 14 dX2_looksBack_106 q2502 rfl in_X2 (Nat.le_of_ble_eq_true rfl) (Or.inl rfl) hh23 hk24 ?_
      refine v_iload_n (i := 3) dX2_looksBack_109 rfl rfl ?_
      refine v_aload_n (i := 0) dX2_looksBack_110 rfl rfl ?_
      replace hf := gR_e hf
      obtain ⟨w26, fs27, r25, hh28, hk29, hf⟩ := hf
      refine v_getf (T := TX2) (ci := 2) 14 dX2_looksBack_111 q2502 rfl in_X2 (Nat.le_of_ble_eq_true rfl) (Or.inl rfl) hh28 hk29 ?_
      refine v_iload_n (i := 3) dX2_looksBack_114 rfl rfl ?_
      obtain ⟨a30, rfl⟩ := aI_s hf
      replace hf := aI_e hf
      obtain ⟨w31, N32, f33, hh34, hi35, i36, ei36, hf⟩ := hf
      refine v_iald dX2_looksBack_115 hh34 hi35 ?_
      rw [← ei36]
      refine v_aload_n (i := 0) dX2_looksBack_116 rfl rfl ?_
      replace hf := gR_e hf
      obtain ⟨w38, fs39, r37, hh40, hk41, hf⟩ := hf
      refine v_getf (T := TX2) (ci := 2) 14 dX2_looksBack_117 q2502 rfl in_X2 (Nat.le_of_ble_eq_true rfl) (Or.inl rfl) hh40 hk41 ?_
      refine v_aload_n (i := 0) dX2_looksBack_120 rfl rfl ?_
      refine v_iload_n (i := 3) dX2_looksBack_121 rfl rfl ?_
      refine v_iload (i := 4) dX2_looksBack_122 rfl ?_
      replace hf := rv_e hf
      obtain ⟨w42, fs43, hh44, hf⟩ := hf
      refine V.addK0 ?_
      refine V.addN0 ?_
      refine v_callV (mc := 0) (ms := 0) 2 dX2_looksBack_124 (m_X2_comesBy hG hf) rfl hh44 rfl (lw_V q2662 q2664 qs63 q98 q2665) rfl (by decide +kernel) (by decide) rfl (cat_len (Nat.le_of_ble_eq_true rfl)) (kk_I fun i46 h45 hg => ?_) (fun _ _ _ hx => hx.elim)
      replace hf := hg
      clear hg
      obtain ⟨a47, rfl⟩ := aI_s hf
      replace hf := aI_e hf
      obtain ⟨w48, N49, f50, hh51, hi52, i53, ei53, hf⟩ := hf
      refine v_iald dX2_looksBack_127 hh51 hi52 ?_
      rw [← ei53]
      refine v_aload_n (i := 0) dX2_looksBack_128 rfl rfl ?_
      refine v_iload_n (i := 3) dX2_looksBack_129 rfl rfl ?_
      refine v_iconst (v := 2) dX2_looksBack_130 (by decide) ?_
      refine v_idiv dX2_looksBack_131 (by decide) ?_
      replace hf := rv_e hf
      obtain ⟨w54, fs55, hh56, hf⟩ := hf
      refine V.addK0 ?_
      refine V.addN0 ?_
      refine v_callV (mc := 0) (ms := 0) 1 dX2_looksBack_132 (m_X2_needs hG hf) rfl hh56 rfl (lw_V q2610 q2612 qs55 q98 q2613) rfl (by decide +kernel) (by decide) rfl (cat_len (Nat.le_of_ble_eq_true rfl)) (kk_I fun i58 h57 hg => ?_) (fun _ _ _ hx => hx.elim)
      replace hf := hg
      clear hg
      refine v_iadd dX2_looksBack_135 ?_
      refine V.addK0 ?_
      refine V.addN0 ?_
      refine v_callS (mc := 0) (ms := 0) 2 dX2_looksBack_136 (m_X2_least hG hf) rfl (lw_S q2577 q2578 q98 q2579) rfl (by decide +kernel) (by decide) rfl (cat_len (Nat.le_of_ble_eq_true rfl)) (kk_I fun i60 h59 hg => ?_) (fun _ _ _ hx => hx.elim)
      replace hf := hg
      clear hg
      obtain ⟨a61, rfl⟩ := sI_s hf
      replace hf := sI_e hf
      obtain ⟨N62, f63, hh64, hi65, hf⟩ := hf
      refine v_iast dX2_looksBack_139 hh64 hi65 ?_
      obtain ⟨h66, eh66⟩ : ∃ z, z = hs h59 a61 (true, .inl (0, N62, .inl (upd f63 (i_3).toNatClampNeg (i60)))) := ⟨_, rfl⟩
      try rw [← eh66] at hf
      rw [← eh66]
      refine v_iinc (i := 4) (v := i_4 + (1 : Int32)) (lv' := [(0, .ref a0), (2, .int i_2), (3, .int i_3), (4, .int (i_4 + (1 : Int32)))]) dX2_looksBack_140 rfl rfl (Nat.le_of_ble_eq_true rfl) rfl rfl ?_
      refine v_goto 84 dX2_looksBack_143 (by decide) ?_
      exact V.weak hf (by omega) (by omega)
theorem b_X2_looksBack {G : Gt} {h : Hp} {mc ms : Nat} {a0 : Nat} {i_1 : Int32} {K : Hp → Prop} (hG : Base G) (hf : ∀ E : Ev, V G E Y_X2_looksBack cX2_looksBack 5 (QM G E (kV K) xN) h mc ms 0 [(0, .ref a0), (1, .int i_1)] []) : MM G Y_X2_looksBack cX2_looksBack 5 mc ms [.ref a0, .int i_1] h (kV K) xN := mm_of hG (by decide +kernel) rfl (ac_c rfl (ac_c rfl ac_nil)) (Nat.le_of_ble_eq_true rfl) (fun E _ _ => hf E)
abbrev Y_X2_goesOn : Yt := (yX2_goesOn, some (.int), 4, 106, [])
def g_X2_goesOn_0 (G : Gt) (E : Ev) (h : Hp) (k n : Nat) (a0 : Nat) (i_1 : Int32) (K : Int32 → Hp → Prop) : Prop :=
V G E Y_X2_goesOn cX2_goesOn 3 (QM G E (kI K) xN) h k n 2 [(0, .ref a0), (1, .int i_1), (2, .int (0 : Int32))] []
theorem s_X2_goesOn_0 {G : Gt} {E : Ev} {h : Hp} {k0 n0 : Nat} {a0 : Nat} {i_1 : Int32} {K : Int32 → Hp → Prop} (hG : Base G) (hA : 0 ≤ k0) (hB : 0 ≤ n0) (hf : g_X2_goesOn_0 G E h (k0 - 0) (n0 - 0) a0 i_1 K) : V G E Y_X2_goesOn cX2_goesOn 3 (QM G E (kI K) xN) h k0 n0 0 [(0, .ref a0), (1, .int i_1)] [] := by
  obtain ⟨k, hk9⟩ : ∃ z, z = k0 - 0 := ⟨_, rfl⟩
  obtain ⟨n, hn9⟩ : ∃ z, z = n0 - 0 := ⟨_, rfl⟩
  rw [← hk9, ← hn9] at hf
  refine V.weak (k' := k + 0) (n' := n + 0) ?_ (by omega) (by omega)
  unfold g_X2_goesOn_0 at hf
  refine v_iconst (v := 0) dX2_goesOn_0 (by decide) ?_
  refine v_istore_n (i := 2) (lv' := [(0, .ref a0), (1, .int i_1), (2, .int (0 : Int32))]) dX2_goesOn_1 rfl (Nat.le_of_ble_eq_true rfl) rfl rfl ?_
  exact V.weak hf (by omega) (by omega)
def g_X2_goesOn_2 (G : Gt) (E : Ev) (h : Hp) (k n : Nat) (a0 : Nat) (i_1 : Int32) (i_2 : Int32) (K : Int32 → Hp → Prop) : Prop :=
gR h (some a0) 2 0 fun r1 =>
aI h r1 0 (1 : Int32) fun i12 =>
((i12 ≤ i_2 → K (i_1 ^^^ (1 : Int32)) h) ∧
(¬ (i12 ≤ i_2) → rv h (some a0) 2 (f_X2_isOpenTo G h (some a0) i_1 i_2 (fun i18 h17 =>
((i18 = 0 → V G E Y_X2_goesOn cX2_goesOn 3 (QM G E (kI K) xN) h17 k n 2 [(0, .ref a0), (1, .int i_1), (2, .int (i_2 + (1 : Int32)))] []) ∧
(¬ (i18 = 0) → gR h17 (some a0) 2 14 fun r20 =>
rv h17 (some a0) 2 (f_X2_comesBy G h17 (some a0) i_1 i_2 (fun i29 h28 =>
aI h28 r20 0 i29 fun i36 =>
rv h28 (some a0) 2 (f_X2_needs G h28 (some a0) (i_1 / (2 : Int32)) (fun i41 h40 =>
gR h40 (some a0) 2 14 fun r42 =>
aI h40 r42 0 i_1 fun i53 =>
((¬ (i36 + i41 = i53) → V G E Y_X2_goesOn cX2_goesOn 3 (QM G E (kI K) xN) h40 k n 2 [(0, .ref a0), (1, .int i_1), (2, .int (i_2 + (1 : Int32)))] []) ∧
(i36 + i41 = i53 → rv h40 (some a0) 2 (f_X2_comesBy G h40 (some a0) i_1 i_2 (fun i59 h58 =>
K i59 h58))))))))))))))
theorem s_X2_goesOn_2 {G : Gt} {E : Ev} {h : Hp} {k0 n0 : Nat} {a0 : Nat} {i_1 : Int32} {i_2 : Int32} {K : Int32 → Hp → Prop} (hG : Base G) (hA : 0 ≤ k0) (hB : 0 ≤ n0) (hf : g_X2_goesOn_2 G E h (k0 - 0) (n0 - 0) a0 i_1 i_2 K) : V G E Y_X2_goesOn cX2_goesOn 3 (QM G E (kI K) xN) h k0 n0 2 [(0, .ref a0), (1, .int i_1), (2, .int i_2)] [] := by
  obtain ⟨k, hk9⟩ : ∃ z, z = k0 - 0 := ⟨_, rfl⟩
  obtain ⟨n, hn9⟩ : ∃ z, z = n0 - 0 := ⟨_, rfl⟩
  rw [← hk9, ← hn9] at hf
  refine V.weak (k' := k + 0) (n' := n + 0) ?_ (by omega) (by omega)
  unfold g_X2_goesOn_2 at hf
  refine v_iload_n (i := 2) dX2_goesOn_2 rfl rfl ?_
  refine v_aload_n (i := 0) dX2_goesOn_3 rfl rfl ?_
  replace hf := gR_e hf
  obtain ⟨w2, fs3, r1, hh4, hk5, hf⟩ := hf
  refine v_getf (T := TX2) (ci := 2) 0 dX2_goesOn_4 q2488 rfl in_X2 (Nat.le_of_ble_eq_true rfl) (Or.inl rfl) hh4 hk5 ?_
  refine v_iconst (v := 1) dX2_goesOn_7 (by decide) ?_
  obtain ⟨a6, rfl⟩ := aI_s hf
  replace hf := aI_e hf
  obtain ⟨w7, N8, f9, hh10, hi11, i12, ei12, hf⟩ := hf
  refine v_iald dX2_goesOn_8 hh10 hi11 ?_
  rw [← ei12]
  refine v_icmp_ge 62 dX2_goesOn_9 (by decide) (fun c13 => ?_) (fun c13 => ?_)
  · replace hf := hf.1 c13
    refine v_iload_n (i := 1) dX2_goesOn_62 rfl rfl ?_
    refine v_iconst (v := 1) dX2_goesOn_63 (by decide) ?_
    refine v_ixor dX2_goesOn_64 ?_
    exact v_iret dX2_goesOn_65 rfl ⟨_, rfl, hf⟩
  · replace hf := hf.2 c13
    refine v_aload_n (i := 0) dX2_goesOn_12 rfl rfl ?_
    refine v_iload_n (i := 1) dX2_goesOn_13 rfl rfl ?_
    refine v_iload_n (i := 2) dX2_goesOn_14 rfl rfl ?_
    replace hf := rv_e hf
    obtain ⟨w14, fs15, hh16, hf⟩ := hf
    refine V.addK0 ?_
    refine V.addN0 ?_
    refine v_callV (mc := 0) (ms := 0) 2 dX2_goesOn_15 (m_X2_isOpenTo hG hf) rfl hh16 rfl (lw_V q2658 q2660 qs62 q98 q2661) rfl (by decide +kernel) (by decide) rfl (cat_len (Nat.le_of_ble_eq_true rfl)) (kk_I fun i18 h17 hg => ?_) (fun _ _ _ hx => hx.elim)
    replace hf := hg
    clear hg
    refine v_if_eq 56 dX2_goesOn_18 (by decide) (fun c19 => ?_) (fun c19 => ?_)
    · replace hf := hf.1 c19
      refine v_iinc (i := 2) (v := i_2 + (1 : Int32)) (lv' := [(0, .ref a0), (1, .int i_1), (2, .int (i_2 + (1 : Int32)))]) dX2_goesOn_56 rfl rfl (Nat.le_of_ble_eq_true rfl) rfl rfl ?_
      refine v_goto 2 dX2_goesOn_59 (by decide) ?_
      exact V.weak hf (by omega) (by omega)
    · replace hf := hf.2 c19
      refine v_aload_n (i := 0) dX2_goesOn_21 rfl rfl ?_
      replace hf := gR_e hf
      obtain ⟨w21, fs22, r20, hh23, hk24, hf⟩ := hf
      refine v_getf (T := TX2) (ci := 2) 14 dX2_goesOn_22 q2502 rfl in_X2 (Nat.le_of_ble_eq_true rfl) (Or.inl rfl) hh23 hk24 ?_
      refine v_aload_n (i := 0) dX2_goesOn_25 rfl rfl ?_
      refine v_iload_n (i := 1) dX2_goesOn_26 rfl rfl ?_
      refine v_iload_n (i := 2) dX2_goesOn_27 rfl rfl ?_
      replace hf := rv_e hf
      obtain ⟨w25, fs26, hh27, hf⟩ := hf
      refine V.addK0 ?_
      refine V.addN0 ?_
      refine v_callV (mc := 0) (ms := 0) 2 dX2_goesOn_28 (m_X2_comesBy hG hf) rfl hh27 rfl (lw_V q2662 q2664 qs63 q98 q2665) rfl (by decide +kernel) (by decide) rfl (cat_len (Nat.le_of_ble_eq_true rfl)) (kk_I fun i29 h28 hg => ?_) (fun _ _ _ hx => hx.elim)
      replace hf := hg
      clear hg
      obtain ⟨a30, rfl⟩ := aI_s hf
      replace hf := aI_e hf
      obtain ⟨w31, N32, f33, hh34, hi35, i36, ei36, hf⟩ := hf
      refine v_iald dX2_goesOn_31 hh34 hi35 ?_
      rw [← ei36]
      refine v_aload_n (i := 0) dX2_goesOn_32 rfl rfl ?_
      refine v_iload_n (i := 1) dX2_goesOn_33 rfl rfl ?_
      refine v_iconst (v := 2) dX2_goesOn_34 (by decide) ?_
      refine v_idiv dX2_goesOn_35 (by decide) ?_
      replace hf := rv_e hf
      obtain ⟨w37, fs38, hh39, hf⟩ := hf
      refine V.addK0 ?_
      refine V.addN0 ?_
      refine v_callV (mc := 0) (ms := 0) 1 dX2_goesOn_36 (m_X2_needs hG hf) rfl hh39 rfl (lw_V q2610 q2612 qs55 q98 q2613) rfl (by decide +kernel) (by decide) rfl (cat_len (Nat.le_of_ble_eq_true rfl)) (kk_I fun i41 h40 hg => ?_) (fun _ _ _ hx => hx.elim)
      replace hf := hg
      clear hg
      refine v_iadd dX2_goesOn_39 ?_
      refine v_aload_n (i := 0) dX2_goesOn_40 rfl rfl ?_
      replace hf := gR_e hf
      obtain ⟨w43, fs44, r42, hh45, hk46, hf⟩ := hf
      refine v_getf (T := TX2) (ci := 2) 14 dX2_goesOn_41 q2502 rfl in_X2 (Nat.le_of_ble_eq_true rfl) (Or.inl rfl) hh45 hk46 ?_
      refine v_iload_n (i := 1) dX2_goesOn_44 rfl rfl ?_
      obtain ⟨a47, rfl⟩ := aI_s hf
      replace hf := aI_e hf
      obtain ⟨w48, N49, f50, hh51, hi52, i53, ei53, hf⟩ := hf
      refine v_iald dX2_goesOn_45 hh51 hi52 ?_
      rw [← ei53]
      refine v_icmp_ne 56 dX2_goesOn_46 (by decide) (fun c54 => ?_) (fun c54 => ?_)
      · replace hf := hf.1 c54
        refine v_iinc (i := 2) (v := i_2 + (1 : Int32)) (lv' := [(0, .ref a0), (1, .int i_1), (2, .int (i_2 + (1 : Int32)))]) dX2_goesOn_56 rfl rfl (Nat.le_of_ble_eq_true rfl) rfl rfl ?_
        refine v_goto 2 dX2_goesOn_59 (by decide) ?_
        exact V.weak hf (by omega) (by omega)
      · replace hf := hf.2 c54
        refine v_aload_n (i := 0) dX2_goesOn_49 rfl rfl ?_
        refine v_iload_n (i := 1) dX2_goesOn_50 rfl rfl ?_
        refine v_iload_n (i := 2) dX2_goesOn_51 rfl rfl ?_
        replace hf := rv_e hf
        obtain ⟨w55, fs56, hh57, hf⟩ := hf
        refine V.addK0 ?_
        refine V.addN0 ?_
        refine v_callV (mc := 0) (ms := 0) 2 dX2_goesOn_52 (m_X2_comesBy hG hf) rfl hh57 rfl (lw_V q2662 q2664 qs63 q98 q2665) rfl (by decide +kernel) (by decide) rfl (cat_len (Nat.le_of_ble_eq_true rfl)) (kk_I fun i59 h58 hg => ?_) (fun _ _ _ hx => hx.elim)
        replace hf := hg
        clear hg
        exact v_iret dX2_goesOn_55 rfl ⟨_, rfl, hf⟩
theorem b_X2_goesOn {G : Gt} {h : Hp} {mc ms : Nat} {a0 : Nat} {i_1 : Int32} {K : Int32 → Hp → Prop} (hG : Base G) (hf : ∀ E : Ev, V G E Y_X2_goesOn cX2_goesOn 3 (QM G E (kI K) xN) h mc ms 0 [(0, .ref a0), (1, .int i_1)] []) : MM G Y_X2_goesOn cX2_goesOn 3 mc ms [.ref a0, .int i_1] h (kI K) xN := mm_of hG (by decide +kernel) rfl (ac_c rfl (ac_c rfl ac_nil)) (Nat.le_of_ble_eq_true rfl) (fun E _ _ => hf E)
abbrev Y_X2_onWay : Yt := (yX2_onWay, some (.int), 5, 130, [])
def g_X2_onWay_0 (G : Gt) (E : Ev) (h : Hp) (k n : Nat) (a0 : Nat) (i_1 : Int32) (i_2 : Int32) (i_3 : Int32) (i_4 : Int32) (K : Int32 → Hp → Prop) : Prop :=
rv h (some a0) 2 (f_X2_areRooms G h (some a0) i_1 i_2 (fun i5 h4 =>
((i5 = 0 → K (-1011 : Int32) h4) ∧
(¬ (i5 = 0) → ((0 ≤ i_4 → f_X2_in G h4 i_3 (0 : Int32) (1 : Int32) (fun i9 h8 =>
((¬ (i9 = 0) → rv h8 (some a0) 2 (dV G Y_X2_looksBack cX2_looksBack 5 [va_rf (some a0), .int i_2] h8 k n (fun h14 k17 n18 =>
gR h14 (some a0) 2 14 fun r19 =>
aI h14 r19 0 (((2 : Int32) * i_1) + i_3) fun i30 =>
((i30 < (9999 : Int32) → V G E Y_X2_onWay cX2_onWay 7 (QM G E (kI K) xN) h14 k17 n18 63 [(0, .ref a0), (2, .int i_2), (4, .int i_4), (5, .int (((2 : Int32) * i_1) + i_3)), (6, .int (0 : Int32))] []) ∧
(¬ (i30 < (9999 : Int32)) → K (-1015 : Int32) h14))) xN)) ∧
(i9 = 0 → K (-1012 : Int32) h8)))) ∧
(¬ (0 ≤ i_4) → K (-1011 : Int32) h4))))))
theorem s_X2_onWay_0 {G : Gt} {E : Ev} {h : Hp} {k0 n0 : Nat} {a0 : Nat} {i_1 : Int32} {i_2 : Int32} {i_3 : Int32} {i_4 : Int32} {K : Int32 → Hp → Prop} (hG : Base G) (hA : 0 ≤ k0) (hB : 0 ≤ n0) (hf : g_X2_onWay_0 G E h (k0 - 0) (n0 - 0) a0 i_1 i_2 i_3 i_4 K) : V G E Y_X2_onWay cX2_onWay 7 (QM G E (kI K) xN) h k0 n0 0 [(0, .ref a0), (1, .int i_1), (2, .int i_2), (3, .int i_3), (4, .int i_4)] [] := by
  obtain ⟨k, hk9⟩ : ∃ z, z = k0 - 0 := ⟨_, rfl⟩
  obtain ⟨n, hn9⟩ : ∃ z, z = n0 - 0 := ⟨_, rfl⟩
  rw [← hk9, ← hn9] at hf
  refine V.weak (k' := k + 0) (n' := n + 0) ?_ (by omega) (by omega)
  unfold g_X2_onWay_0 at hf
  refine v_aload_n (i := 0) dX2_onWay_0 rfl rfl ?_
  refine v_iload_n (i := 1) dX2_onWay_1 rfl rfl ?_
  refine v_iload_n (i := 2) dX2_onWay_2 rfl rfl ?_
  replace hf := rv_e hf
  obtain ⟨w1, fs2, hh3, hf⟩ := hf
  refine V.addK0 ?_
  refine V.addN0 ?_
  refine v_callV (mc := 0) (ms := 0) 2 dX2_onWay_3 (m_X2_areRooms hG hf) rfl hh3 rfl (lw_V q2650 q2652 qs60 q98 q2653) rfl (by decide +kernel) (by decide) rfl (cat_len (Nat.le_of_ble_eq_true rfl)) (kk_I fun i5 h4 hg => ?_) (fun _ _ _ hx => hx.elim)
  replace hf := hg
  clear hg
  refine v_if_eq 14 dX2_onWay_6 (by decide) (fun c6 => ?_) (fun c6 => ?_)
  · replace hf := hf.1 c6
    refine v_sipush (v := -1011) dX2_onWay_14 (by decide) ?_
    exact v_iret dX2_onWay_17 rfl ⟨_, rfl, hf⟩
  · replace hf := hf.2 c6
    refine v_iload (i := 4) dX2_onWay_9 rfl ?_
    refine v_if_ge 18 dX2_onWay_11 (by decide) (fun c7 => ?_) (fun c7 => ?_)
    · replace hf := hf.1 c7
      refine v_iload_n (i := 3) dX2_onWay_18 rfl rfl ?_
      refine v_iconst (v := 0) dX2_onWay_19 (by decide) ?_
      refine v_iconst (v := 1) dX2_onWay_20 (by decide) ?_
      refine V.addK0 ?_
      refine V.addN0 ?_
      refine v_callS (mc := 0) (ms := 0) 3 dX2_onWay_21 (m_X2_in hG hf) rfl (lw_S q2547 q2548 q98 q2549) rfl (by decide +kernel) (by decide) rfl (cat_len (Nat.le_of_ble_eq_true rfl)) (kk_I fun i9 h8 hg => ?_) (fun _ _ _ hx => hx.elim)
      replace hf := hg
      clear hg
      refine v_if_ne 31 dX2_onWay_24 (by decide) (fun c10 => ?_) (fun c10 => ?_)
      · replace hf := hf.1 c10
        refine v_aload_n (i := 0) dX2_onWay_31 rfl rfl ?_
        refine v_iload_n (i := 2) dX2_onWay_32 rfl rfl ?_
        replace hf := rv_e hf
        obtain ⟨w11, fs12, hh13, hf⟩ := hf
        obtain ⟨mc15, ms16, hkmc15, hnms16, hM⟩ := hf
        refine V.weak (k' := ((k - mc15) + 0) + mc15) (n' := ((n - ms16) + 0) + ms16) ?_ (by omega) (by omega)
        refine v_callV 1 dX2_onWay_33 hM rfl hh13 rfl (lw_V q2679 q2681 qs65 q98 q2682) rfl (by decide +kernel) (by decide) rfl (cat_len (Nat.le_of_ble_eq_true rfl)) (kk_V fun h14 hg => ?_) (fun _ _ _ hx => hx.elim)
        have hf := hg
        clear hg
        refine v_iconst (v := 2) dX2_onWay_36 (by decide) ?_
        refine v_iload_n (i := 1) dX2_onWay_37 rfl rfl ?_
        refine v_imul dX2_onWay_38 ?_
        refine v_iload_n (i := 3) dX2_onWay_39 rfl rfl ?_
        refine v_iadd dX2_onWay_40 ?_
        refine v_istore (i := 5) (lv' := [(0, .ref a0), (1, .int i_1), (2, .int i_2), (3, .int i_3), (4, .int i_4), (5, .int (((2 : Int32) * i_1) + i_3))]) dX2_onWay_41 (Nat.le_of_ble_eq_true rfl) rfl rfl ?_
        refine v_aload_n (i := 0) dX2_onWay_43 rfl rfl ?_
        replace hf := gR_e hf
        obtain ⟨w20, fs21, r19, hh22, hk23, hf⟩ := hf
        refine v_getf (T := TX2) (ci := 2) 14 dX2_onWay_44 q2502 rfl in_X2 (Nat.le_of_ble_eq_true rfl) (Or.inl rfl) hh22 hk23 ?_
        refine v_iload (i := 5) dX2_onWay_47 rfl ?_
        obtain ⟨a24, rfl⟩ := aI_s hf
        replace hf := aI_e hf
        obtain ⟨w25, N26, f27, hh28, hi29, i30, ei30, hf⟩ := hf
        refine v_iald dX2_onWay_49 hh28 hi29 ?_
        rw [← ei30]
        refine v_sipush (v := 9999) dX2_onWay_50 (by decide) ?_
        refine v_icmp_lt 60 dX2_onWay_53 (by decide) (fun c31 => ?_) (fun c31 => ?_)
        · replace hf := hf.1 c31
          refine v_iconst (v := 0) dX2_onWay_60 (by decide) ?_
          refine v_istore (i := 6) (lv' := [(0, .ref a0), (1, .int i_1), (2, .int i_2), (3, .int i_3), (4, .int i_4), (5, .int (((2 : Int32) * i_1) + i_3)), (6, .int (0 : Int32))]) dX2_onWay_61 (Nat.le_of_ble_eq_true rfl) rfl rfl ?_
          refine V.lp (lv' := [(0, .ref a0), (2, .int i_2), (4, .int i_4), (5, .int (((2 : Int32) * i_1) + i_3)), (6, .int (0 : Int32))]) [0, 2, 4, 5, 6] rfl ?_
          exact V.weak hf (by omega) (by omega)
        · replace hf := hf.2 c31
          refine v_sipush (v := -1015) dX2_onWay_56 (by decide) ?_
          exact v_iret dX2_onWay_59 rfl ⟨_, rfl, hf⟩
      · replace hf := hf.2 c10
        refine v_sipush (v := -1012) dX2_onWay_27 (by decide) ?_
        exact v_iret dX2_onWay_30 rfl ⟨_, rfl, hf⟩
    · replace hf := hf.2 c7
      refine v_sipush (v := -1011) dX2_onWay_14 (by decide) ?_
      exact v_iret dX2_onWay_17 rfl ⟨_, rfl, hf⟩
def g_X2_onWay_63 (G : Gt) (E : Ev) (h : Hp) (k n : Nat) (a0 : Nat) (i_2 : Int32) (i_4 : Int32) (i_5 : Int32) (i_6 : Int32) (K : Int32 → Hp → Prop) : Prop :=
((i_4 ≤ i_6 → K (i_5 / (2 : Int32)) h) ∧
(¬ (i_4 ≤ i_6) → ((¬ (i_5 / (2 : Int32) = i_2) → rv h (some a0) 2 (dI G Y_X2_goesOn cX2_goesOn 3 [va_rf (some a0), .int i_5] h k n (fun i7 h6 k10 n11 =>
V G E Y_X2_onWay cX2_onWay 7 (QM G E (kI K) xN) h6 k10 n11 63 [(0, .ref a0), (2, .int i_2), (4, .int i_4), (5, .int i7), (6, .int (i_6 + (1 : Int32)))] []) xN)) ∧
(i_5 / (2 : Int32) = i_2 → K (-1011 : Int32) h))))
theorem s_X2_onWay_63 {G : Gt} {E : Ev} {h : Hp} {k0 n0 : Nat} {a0 : Nat} {i_2 : Int32} {i_4 : Int32} {i_5 : Int32} {i_6 : Int32} {K : Int32 → Hp → Prop} (hG : Base G) (hA : 0 ≤ k0) (hB : 0 ≤ n0) (hf : g_X2_onWay_63 G E h (k0 - 0) (n0 - 0) a0 i_2 i_4 i_5 i_6 K) : V G E Y_X2_onWay cX2_onWay 7 (QM G E (kI K) xN) h k0 n0 63 [(0, .ref a0), (2, .int i_2), (4, .int i_4), (5, .int i_5), (6, .int i_6)] [] := by
  obtain ⟨k, hk9⟩ : ∃ z, z = k0 - 0 := ⟨_, rfl⟩
  obtain ⟨n, hn9⟩ : ∃ z, z = n0 - 0 := ⟨_, rfl⟩
  rw [← hk9, ← hn9] at hf
  refine V.weak (k' := k + 0) (n' := n + 0) ?_ (by omega) (by omega)
  unfold g_X2_onWay_63 at hf
  refine v_iload (i := 6) dX2_onWay_63 rfl ?_
  refine v_iload (i := 4) dX2_onWay_65 rfl ?_
  refine v_icmp_ge 96 dX2_onWay_67 (by decide) (fun c1 => ?_) (fun c1 => ?_)
  · replace hf := hf.1 c1
    refine v_iload (i := 5) dX2_onWay_96 rfl ?_
    refine v_iconst (v := 2) dX2_onWay_98 (by decide) ?_
    refine v_idiv dX2_onWay_99 (by decide) ?_
    exact v_iret dX2_onWay_100 rfl ⟨_, rfl, hf⟩
  · replace hf := hf.2 c1
    refine v_iload (i := 5) dX2_onWay_70 rfl ?_
    refine v_iconst (v := 2) dX2_onWay_72 (by decide) ?_
    refine v_idiv dX2_onWay_73 (by decide) ?_
    refine v_iload_n (i := 2) dX2_onWay_74 rfl rfl ?_
    refine v_icmp_ne 82 dX2_onWay_75 (by decide) (fun c2 => ?_) (fun c2 => ?_)
    · replace hf := hf.1 c2
      refine v_aload_n (i := 0) dX2_onWay_82 rfl rfl ?_
      refine v_iload (i := 5) dX2_onWay_83 rfl ?_
      replace hf := rv_e hf
      obtain ⟨w3, fs4, hh5, hf⟩ := hf
      obtain ⟨mc8, ms9, hkmc8, hnms9, hM⟩ := hf
      refine V.weak (k' := ((k - mc8) + 0) + mc8) (n' := ((n - ms9) + 0) + ms9) ?_ (by omega) (by omega)
      refine v_callV 1 dX2_onWay_85 hM rfl hh5 rfl (lw_V q2683 q2685 qs66 q98 q2686) rfl (by decide +kernel) (by decide) rfl (cat_len (Nat.le_of_ble_eq_true rfl)) (kk_I fun i7 h6 hg => ?_) (fun _ _ _ hx => hx.elim)
      have hf := hg
      clear hg
      refine v_istore (i := 5) (lv' := [(0, .ref a0), (2, .int i_2), (4, .int i_4), (5, .int i7), (6, .int i_6)]) dX2_onWay_88 (Nat.le_of_ble_eq_true rfl) rfl rfl ?_
      refine v_iinc (i := 6) (v := i_6 + (1 : Int32)) (lv' := [(0, .ref a0), (2, .int i_2), (4, .int i_4), (5, .int i7), (6, .int (i_6 + (1 : Int32)))]) dX2_onWay_90 rfl rfl (Nat.le_of_ble_eq_true rfl) rfl rfl ?_
      refine v_goto 63 dX2_onWay_93 (by decide) ?_
      exact V.weak hf (by omega) (by omega)
    · replace hf := hf.2 c2
      refine v_sipush (v := -1011) dX2_onWay_78 (by decide) ?_
      exact v_iret dX2_onWay_81 rfl ⟨_, rfl, hf⟩
theorem b_X2_onWay {G : Gt} {h : Hp} {mc ms : Nat} {a0 : Nat} {i_1 : Int32} {i_2 : Int32} {i_3 : Int32} {i_4 : Int32} {K : Int32 → Hp → Prop} (hG : Base G) (hf : ∀ E : Ev, V G E Y_X2_onWay cX2_onWay 7 (QM G E (kI K) xN) h mc ms 0 [(0, .ref a0), (1, .int i_1), (2, .int i_2), (3, .int i_3), (4, .int i_4)] []) : MM G Y_X2_onWay cX2_onWay 7 mc ms [.ref a0, .int i_1, .int i_2, .int i_3, .int i_4] h (kI K) xN := mm_of hG (by decide +kernel) rfl (ac_c rfl (ac_c rfl (ac_c rfl (ac_c rfl (ac_c rfl ac_nil))))) (Nat.le_of_ble_eq_true rfl) (fun E _ _ => hf E)
abbrev Y_X2_longerBack : Yt := (yX2_longerBack, some (.int), 6, 155, [])
def f_X2_longerBack (G : Gt) (h : Hp) (k n : Nat) (t_0 : Option Nat) (i_1 : Int32) (i_2 : Int32) (i_3 : Int32) (K : Int32 → Hp → Prop) : Prop :=
rv h t_0 2 (dI G Y_X2_way cX2_way 4 [va_rf t_0, .int i_1, .int i_2, .int i_3] h k n (fun i5 h4 k8 n9 =>
((0 ≤ i5 → rv h4 t_0 2 (dI G Y_X2_way cX2_way 4 [va_rf t_0, .int i_2, .int i_1, .int ((i_3 + i5) - (i_3 + i5) / (2 : Int32) * (2 : Int32))] h4 k8 n9 (fun i15 h14 k18 n19 =>
K (i15 - i5) h14) xN)) ∧
(¬ (0 ≤ i5) → K i5 h4))) xN)
theorem m_X2_longerBack {G : Gt} {h : Hp} {mc ms : Nat} {a0 : Nat} {i_1 : Int32} {i_2 : Int32} {i_3 : Int32} {K : Int32 → Hp → Prop} (hG : Base G) (hA : 0 ≤ mc) (hB : 0 ≤ ms) (hf : f_X2_longerBack G h (mc - 0) (ms - 0) (some a0) i_1 i_2 i_3 K) : MM G Y_X2_longerBack cX2_longerBack 5 mc ms [.ref a0, .int i_1, .int i_2, .int i_3] h (kI K) xN := by
  refine mm_of hG (by decide +kernel) rfl (ac_c rfl (ac_c rfl (ac_c rfl (ac_c rfl ac_nil)))) (Nat.le_of_ble_eq_true rfl) (fun E _ _ => ?_)
  obtain ⟨k, hk9⟩ : ∃ z, z = mc - 0 := ⟨_, rfl⟩
  obtain ⟨n, hn9⟩ : ∃ z, z = ms - 0 := ⟨_, rfl⟩
  rw [← hk9, ← hn9] at hf
  refine V.weak (k' := k + 0) (n' := n + 0) ?_ (by omega) (by omega)
  show V G E Y_X2_longerBack cX2_longerBack 5 (QM G E (kI K) xN) h (k + 0) (n + 0) 0 [(0, .ref a0), (1, .int i_1), (2, .int i_2), (3, .int i_3)] []
  unfold f_X2_longerBack at hf
  refine v_qload_n (r := (some a0)) (i := 0) dX2_longerBack_0 rfl rfl ?_
  refine v_iload_n (i := 1) dX2_longerBack_1 rfl rfl ?_
  refine v_iload_n (i := 2) dX2_longerBack_2 rfl rfl ?_
  refine v_iload_n (i := 3) dX2_longerBack_3 rfl rfl ?_
  replace hf := rv_e hf
  obtain ⟨w1, fs2, hh3, hf⟩ := hf
  obtain ⟨mc6, ms7, hkmc6, hnms7, hM⟩ := hf
  refine V.weak (k' := ((k - mc6) + 0) + mc6) (n' := ((n - ms7) + 0) + ms7) ?_ (by omega) (by omega)
  refine v_callV 3 dX2_longerBack_4 hM rfl hh3 rfl (lw_V q2674 q2647 q2648 q98 q2649) rfl (by decide +kernel) (by decide) rfl (cat_len (Nat.le_of_ble_eq_true rfl)) (kk_I fun i5 h4 hg => ?_) (fun _ _ _ hx => hx.elim)
  have hf := hg
  clear hg
  refine v_istore (i := 4) (lv' := [(0, va_rf (some a0)), (1, .int i_1), (2, .int i_2), (3, .int i_3), (4, .int i5)]) dX2_longerBack_7 (Nat.le_of_ble_eq_true rfl) rfl rfl ?_
  refine v_iload (i := 4) dX2_longerBack_9 rfl ?_
  refine v_if_ge 17 dX2_longerBack_11 (by decide) (fun c10 => ?_) (fun c10 => ?_)
  · replace hf := hf.1 c10
    refine v_qload_n (r := (some a0)) (i := 0) dX2_longerBack_17 rfl rfl ?_
    refine v_iload_n (i := 2) dX2_longerBack_18 rfl rfl ?_
    refine v_iload_n (i := 1) dX2_longerBack_19 rfl rfl ?_
    refine v_iload_n (i := 3) dX2_longerBack_20 rfl rfl ?_
    refine v_iload (i := 4) dX2_longerBack_21 rfl ?_
    refine v_iadd dX2_longerBack_23 ?_
    refine v_iconst (v := 2) dX2_longerBack_24 (by decide) ?_
    refine v_irem dX2_longerBack_25 (by decide) ?_
    replace hf := rv_e hf
    obtain ⟨w11, fs12, hh13, hf⟩ := hf
    obtain ⟨mc16, ms17, hkmc16, hnms17, hM⟩ := hf
    refine V.weak (k' := (((k - mc6) - mc16) + 0) + mc16) (n' := (((n - ms7) - ms17) + 0) + ms17) ?_ (by omega) (by omega)
    refine v_callV 3 dX2_longerBack_26 hM rfl hh13 rfl (lw_V q2674 q2647 q2648 q98 q2649) rfl (by decide +kernel) (by decide) rfl (cat_len (Nat.le_of_ble_eq_true rfl)) (kk_I fun i15 h14 hg => ?_) (fun _ _ _ hx => hx.elim)
    have hf := hg
    clear hg
    refine v_iload (i := 4) dX2_longerBack_29 rfl ?_
    refine v_isub dX2_longerBack_31 ?_
    exact v_iret dX2_longerBack_32 rfl ⟨_, rfl, hf⟩
  · replace hf := hf.2 c10
    refine v_iload (i := 4) dX2_longerBack_14 rfl ?_
    exact v_iret dX2_longerBack_16 rfl ⟨_, rfl, hf⟩
abbrev Y_X2_doorsOf : Yt := (yX2_doorsOf, some (.int), 3, 84, [])
def g_X2_doorsOf_0 (G : Gt) (E : Ev) (h : Hp) (k n : Nat) (a0 : Nat) (i_1 : Int32) (K : Int32 → Hp → Prop) : Prop :=
V G E Y_X2_doorsOf cX2_doorsOf 4 (QM G E (kI K) xN) h k n 4 [(0, .ref a0), (1, .int i_1), (2, .int (0 : Int32)), (3, .int (0 : Int32))] []
theorem s_X2_doorsOf_0 {G : Gt} {E : Ev} {h : Hp} {k0 n0 : Nat} {a0 : Nat} {i_1 : Int32} {K : Int32 → Hp → Prop} (hG : Base G) (hA : 0 ≤ k0) (hB : 0 ≤ n0) (hf : g_X2_doorsOf_0 G E h (k0 - 0) (n0 - 0) a0 i_1 K) : V G E Y_X2_doorsOf cX2_doorsOf 4 (QM G E (kI K) xN) h k0 n0 0 [(0, .ref a0), (1, .int i_1)] [] := by
  obtain ⟨k, hk9⟩ : ∃ z, z = k0 - 0 := ⟨_, rfl⟩
  obtain ⟨n, hn9⟩ : ∃ z, z = n0 - 0 := ⟨_, rfl⟩
  rw [← hk9, ← hn9] at hf
  refine V.weak (k' := k + 0) (n' := n + 0) ?_ (by omega) (by omega)
  unfold g_X2_doorsOf_0 at hf
  refine v_iconst (v := 0) dX2_doorsOf_0 (by decide) ?_
  refine v_istore_n (i := 2) (lv' := [(0, .ref a0), (1, .int i_1), (2, .int (0 : Int32))]) dX2_doorsOf_1 rfl (Nat.le_of_ble_eq_true rfl) rfl rfl ?_
  refine v_iconst (v := 0) dX2_doorsOf_2 (by decide) ?_
  refine v_istore_n (i := 3) (lv' := [(0, .ref a0), (1, .int i_1), (2, .int (0 : Int32)), (3, .int (0 : Int32))]) dX2_doorsOf_3 rfl (Nat.le_of_ble_eq_true rfl) rfl rfl ?_
  exact V.weak hf (by omega) (by omega)
def g_X2_doorsOf_4 (G : Gt) (E : Ev) (h : Hp) (k n : Nat) (a0 : Nat) (i_1 : Int32) (i_2 : Int32) (i_3 : Int32) (K : Int32 → Hp → Prop) : Prop :=
gR h (some a0) 2 0 fun r1 =>
aI h r1 0 (1 : Int32) fun i12 =>
((i12 ≤ i_3 → K i_2 h) ∧
(¬ (i12 ≤ i_3) → rv h (some a0) 2 (f_X2_isAt G h (some a0) i_1 i_3 (fun i18 h17 =>
((i18 = 0 → V G E Y_X2_doorsOf cX2_doorsOf 4 (QM G E (kI K) xN) h17 k n 4 [(0, .ref a0), (1, .int i_1), (2, .int (i_2 + (0 : Int32))), (3, .int (i_3 + (1 : Int32)))] []) ∧
(¬ (i18 = 0) → V G E Y_X2_doorsOf cX2_doorsOf 4 (QM G E (kI K) xN) h17 k n 4 [(0, .ref a0), (1, .int i_1), (2, .int (i_2 + (1 : Int32))), (3, .int (i_3 + (1 : Int32)))] []))))))
theorem s_X2_doorsOf_4 {G : Gt} {E : Ev} {h : Hp} {k0 n0 : Nat} {a0 : Nat} {i_1 : Int32} {i_2 : Int32} {i_3 : Int32} {K : Int32 → Hp → Prop} (hG : Base G) (hA : 0 ≤ k0) (hB : 0 ≤ n0) (hf : g_X2_doorsOf_4 G E h (k0 - 0) (n0 - 0) a0 i_1 i_2 i_3 K) : V G E Y_X2_doorsOf cX2_doorsOf 4 (QM G E (kI K) xN) h k0 n0 4 [(0, .ref a0), (1, .int i_1), (2, .int i_2), (3, .int i_3)] [] := by
  obtain ⟨k, hk9⟩ : ∃ z, z = k0 - 0 := ⟨_, rfl⟩
  obtain ⟨n, hn9⟩ : ∃ z, z = n0 - 0 := ⟨_, rfl⟩
  rw [← hk9, ← hn9] at hf
  refine V.weak (k' := k + 0) (n' := n + 0) ?_ (by omega) (by omega)
  unfold g_X2_doorsOf_4 at hf
  refine v_iload_n (i := 3) dX2_doorsOf_4 rfl rfl ?_
  refine v_aload_n (i := 0) dX2_doorsOf_5 rfl rfl ?_
  replace hf := gR_e hf
  obtain ⟨w2, fs3, r1, hh4, hk5, hf⟩ := hf
  refine v_getf (T := TX2) (ci := 2) 0 dX2_doorsOf_6 q2488 rfl in_X2 (Nat.le_of_ble_eq_true rfl) (Or.inl rfl) hh4 hk5 ?_
  refine v_iconst (v := 1) dX2_doorsOf_9 (by decide) ?_
  obtain ⟨a6, rfl⟩ := aI_s hf
  replace hf := aI_e hf
  obtain ⟨w7, N8, f9, hh10, hi11, i12, ei12, hf⟩ := hf
  refine v_iald dX2_doorsOf_10 hh10 hi11 ?_
  rw [← ei12]
  refine v_icmp_ge 37 dX2_doorsOf_11 (by decide) (fun c13 => ?_) (fun c13 => ?_)
  · replace hf := hf.1 c13
    refine v_iload_n (i := 2) dX2_doorsOf_37 rfl rfl ?_
    exact v_iret dX2_doorsOf_38 rfl ⟨_, rfl, hf⟩
  · replace hf := hf.2 c13
    refine v_iload_n (i := 2) dX2_doorsOf_14 rfl rfl ?_
    refine v_aload_n (i := 0) dX2_doorsOf_15 rfl rfl ?_
    refine v_iload_n (i := 1) dX2_doorsOf_16 rfl rfl ?_
    refine v_iload_n (i := 3) dX2_doorsOf_17 rfl rfl ?_
    replace hf := rv_e hf
    obtain ⟨w14, fs15, hh16, hf⟩ := hf
    refine V.addK0 ?_
    refine V.addN0 ?_
    refine v_callV (mc := 0) (ms := 0) 2 dX2_doorsOf_18 (m_X2_isAt hG hf) rfl hh16 rfl (lw_V q2606 q2608 qs54 q98 q2609) rfl (by decide +kernel) (by decide) rfl (cat_len (Nat.le_of_ble_eq_true rfl)) (kk_I fun i18 h17 hg => ?_) (fun _ _ _ hx => hx.elim)
    replace hf := hg
    clear hg
    refine v_if_eq 28 dX2_doorsOf_21 (by decide) (fun c19 => ?_) (fun c19 => ?_)
    · replace hf := hf.1 c19
      refine v_iconst (v := 0) dX2_doorsOf_28 (by decide) ?_
      refine v_iadd dX2_doorsOf_29 ?_
      refine v_istore_n (i := 2) (lv' := [(0, .ref a0), (1, .int i_1), (2, .int (i_2 + (0 : Int32))), (3, .int i_3)]) dX2_doorsOf_30 rfl (Nat.le_of_ble_eq_true rfl) rfl rfl ?_
      refine v_iinc (i := 3) (v := i_3 + (1 : Int32)) (lv' := [(0, .ref a0), (1, .int i_1), (2, .int (i_2 + (0 : Int32))), (3, .int (i_3 + (1 : Int32)))]) dX2_doorsOf_31 rfl rfl (Nat.le_of_ble_eq_true rfl) rfl rfl ?_
      refine v_goto 4 dX2_doorsOf_34 (by decide) ?_
      exact V.weak hf (by omega) (by omega)
    · replace hf := hf.2 c19
      refine v_iconst (v := 1) dX2_doorsOf_24 (by decide) ?_
      refine v_goto 29 dX2_doorsOf_25 (by decide) ?_
      refine v_iadd dX2_doorsOf_29 ?_
      refine v_istore_n (i := 2) (lv' := [(0, .ref a0), (1, .int i_1), (2, .int (i_2 + (1 : Int32))), (3, .int i_3)]) dX2_doorsOf_30 rfl (Nat.le_of_ble_eq_true rfl) rfl rfl ?_
      refine v_iinc (i := 3) (v := i_3 + (1 : Int32)) (lv' := [(0, .ref a0), (1, .int i_1), (2, .int (i_2 + (1 : Int32))), (3, .int (i_3 + (1 : Int32)))]) dX2_doorsOf_31 rfl rfl (Nat.le_of_ble_eq_true rfl) rfl rfl ?_
      refine v_goto 4 dX2_doorsOf_34 (by decide) ?_
      exact V.weak hf (by omega) (by omega)
theorem b_X2_doorsOf {G : Gt} {h : Hp} {mc ms : Nat} {a0 : Nat} {i_1 : Int32} {K : Int32 → Hp → Prop} (hG : Base G) (hf : ∀ E : Ev, V G E Y_X2_doorsOf cX2_doorsOf 4 (QM G E (kI K) xN) h mc ms 0 [(0, .ref a0), (1, .int i_1)] []) : MM G Y_X2_doorsOf cX2_doorsOf 4 mc ms [.ref a0, .int i_1] h (kI K) xN := mm_of hG (by decide +kernel) rfl (ac_c rfl (ac_c rfl ac_nil)) (Nat.le_of_ble_eq_true rfl) (fun E _ _ => hf E)
abbrev Y_X2_spreadsNow : Yt := (yX2_spreadsNow, none, 5, 132, [])
def f_X2_spreadsNow (G : Gt) (h : Hp) (k n : Nat) (t_0 : Option Nat) (i_1 : Int32) (K : Hp → Prop) : Prop :=
gR h t_0 2 0 fun r1 =>
aI h r1 0 (2 : Int32) fun i12 =>
gR h t_0 2 0 fun r13 =>
aI h r13 0 (3 : Int32) fun i24 =>
rv h t_0 2 (dV G Y_X2_spreads cX2_spreads 7 [va_rf t_0, .int i12, .int (i24 - i24 / (2 : Int32) * (2 : Int32)), .int i_1] h k n (fun h28 k31 n32 =>
K h28) xN)
theorem m_X2_spreadsNow {G : Gt} {h : Hp} {mc ms : Nat} {a0 : Nat} {i_1 : Int32} {K : Hp → Prop} (hG : Base G) (hA : 0 ≤ mc) (hB : 0 ≤ ms) (hf : f_X2_spreadsNow G h (mc - 0) (ms - 0) (some a0) i_1 K) : MM G Y_X2_spreadsNow cX2_spreadsNow 2 mc ms [.ref a0, .int i_1] h (kV K) xN := by
  refine mm_of hG (by decide +kernel) rfl (ac_c rfl (ac_c rfl ac_nil)) (Nat.le_of_ble_eq_true rfl) (fun E _ _ => ?_)
  obtain ⟨k, hk9⟩ : ∃ z, z = mc - 0 := ⟨_, rfl⟩
  obtain ⟨n, hn9⟩ : ∃ z, z = ms - 0 := ⟨_, rfl⟩
  rw [← hk9, ← hn9] at hf
  refine V.weak (k' := k + 0) (n' := n + 0) ?_ (by omega) (by omega)
  show V G E Y_X2_spreadsNow cX2_spreadsNow 2 (QM G E (kV K) xN) h (k + 0) (n + 0) 0 [(0, .ref a0), (1, .int i_1)] []
  unfold f_X2_spreadsNow at hf
  refine v_qload_n (r := (some a0)) (i := 0) dX2_spreadsNow_0 rfl rfl ?_
  refine v_qload_n (r := (some a0)) (i := 0) dX2_spreadsNow_1 rfl rfl ?_
  replace hf := gR_e hf
  obtain ⟨w2, fs3, r1, hh4, hk5, hf⟩ := hf
  refine v_getf (T := TX2) (ci := 2) 0 dX2_spreadsNow_2 q2488 rfl in_X2 (Nat.le_of_ble_eq_true rfl) (Or.inl rfl) hh4 hk5 ?_
  refine v_iconst (v := 2) dX2_spreadsNow_5 (by decide) ?_
  obtain ⟨a6, rfl⟩ := aI_s hf
  replace hf := aI_e hf
  obtain ⟨w7, N8, f9, hh10, hi11, i12, ei12, hf⟩ := hf
  refine v_iald dX2_spreadsNow_6 hh10 hi11 ?_
  rw [← ei12]
  refine v_qload_n (r := (some a0)) (i := 0) dX2_spreadsNow_7 rfl rfl ?_
  replace hf := gR_e hf
  obtain ⟨w14, fs15, r13, hh16, hk17, hf⟩ := hf
  refine v_getf (T := TX2) (ci := 2) 0 dX2_spreadsNow_8 q2488 rfl in_X2 (Nat.le_of_ble_eq_true rfl) (Or.inl rfl) hh16 hk17 ?_
  refine v_iconst (v := 3) dX2_spreadsNow_11 (by decide) ?_
  obtain ⟨a18, rfl⟩ := aI_s hf
  replace hf := aI_e hf
  obtain ⟨w19, N20, f21, hh22, hi23, i24, ei24, hf⟩ := hf
  refine v_iald dX2_spreadsNow_12 hh22 hi23 ?_
  rw [← ei24]
  refine v_iconst (v := 2) dX2_spreadsNow_13 (by decide) ?_
  refine v_irem dX2_spreadsNow_14 (by decide) ?_
  refine v_iload_n (i := 1) dX2_spreadsNow_15 rfl rfl ?_
  replace hf := rv_e hf
  obtain ⟨w25, fs26, hh27, hf⟩ := hf
  obtain ⟨mc29, ms30, hkmc29, hnms30, hM⟩ := hf
  refine V.weak (k' := ((k - mc29) + 0) + mc29) (n' := ((n - ms30) + 0) + ms30) ?_ (by omega) (by omega)
  refine v_callV 3 dX2_spreadsNow_16 hM rfl hh27 rfl (lw_V q2654 q2656 qs61 q98 q2657) rfl (by decide +kernel) (by decide) rfl (cat_len (Nat.le_of_ble_eq_true rfl)) (kk_V fun h28 hg => ?_) (fun _ _ _ hx => hx.elim)
  have hf := hg
  clear hg
  exact v_vret dX2_spreadsNow_19 rfl ⟨rfl, hf⟩
abbrev Y_X2_isDoubled : Yt := (yX2_isDoubled, some (.boolean), 6, 153, [])
def f_X2_isDoubled (G : Gt) (h : Hp) (k n : Nat) (t_0 : Option Nat) (i_1 : Int32) (K : Int32 → Hp → Prop) : Prop :=
rv h t_0 2 (dV G Y_X2_spreadsNow cX2_spreadsNow 2 [va_rf t_0, .int (0 : Int32)] h k n (fun h4 k7 n8 =>
gR h4 t_0 2 13 fun r9 =>
aI h4 r9 0 ((2 : Int32) * i_1) fun i20 =>
(((9999 : Int32) ≤ i20 → K (0 : Int32) h4) ∧
(¬ ((9999 : Int32) ≤ i20) → gR h4 t_0 2 13 fun r22 =>
aI h4 r22 0 (((2 : Int32) * i_1) + (1 : Int32)) fun i33 =>
(((9999 : Int32) ≤ i33 → K (0 : Int32) h4) ∧
(¬ ((9999 : Int32) ≤ i33) → K (1 : Int32) h4))))) xN)
theorem m_X2_isDoubled {G : Gt} {h : Hp} {mc ms : Nat} {a0 : Nat} {i_1 : Int32} {K : Int32 → Hp → Prop} (hG : Base G) (hA : 0 ≤ mc) (hB : 0 ≤ ms) (hf : f_X2_isDoubled G h (mc - 0) (ms - 0) (some a0) i_1 K) : MM G Y_X2_isDoubled cX2_isDoubled 2 mc ms [.ref a0, .int i_1] h (kI K) xN := by
  refine mm_of hG (by decide +kernel) rfl (ac_c rfl (ac_c rfl ac_nil)) (Nat.le_of_ble_eq_true rfl) (fun E _ _ => ?_)
  obtain ⟨k, hk9⟩ : ∃ z, z = mc - 0 := ⟨_, rfl⟩
  obtain ⟨n, hn9⟩ : ∃ z, z = ms - 0 := ⟨_, rfl⟩
  rw [← hk9, ← hn9] at hf
  refine V.weak (k' := k + 0) (n' := n + 0) ?_ (by omega) (by omega)
  show V G E Y_X2_isDoubled cX2_isDoubled 2 (QM G E (kI K) xN) h (k + 0) (n + 0) 0 [(0, .ref a0), (1, .int i_1)] []
  unfold f_X2_isDoubled at hf
  refine v_qload_n (r := (some a0)) (i := 0) dX2_isDoubled_0 rfl rfl ?_
  refine v_iconst (v := 0) dX2_isDoubled_1 (by decide) ?_
  replace hf := rv_e hf
  obtain ⟨w1, fs2, hh3, hf⟩ := hf
  obtain ⟨mc5, ms6, hkmc5, hnms6, hM⟩ := hf
  refine V.weak (k' := ((k - mc5) + 0) + mc5) (n' := ((n - ms6) + 0) + ms6) ?_ (by omega) (by omega)
  refine v_callV 1 dX2_isDoubled_2 hM rfl hh3 rfl (lw_V q2703 q2705 qs69 q98 q2706) rfl (by decide +kernel) (by decide) rfl (cat_len (Nat.le_of_ble_eq_true rfl)) (kk_V fun h4 hg => ?_) (fun _ _ _ hx => hx.elim)
  have hf := hg
  clear hg
  refine v_qload_n (r := (some a0)) (i := 0) dX2_isDoubled_5 rfl rfl ?_
  replace hf := gR_e hf
  obtain ⟨w10, fs11, r9, hh12, hk13, hf⟩ := hf
  refine v_getf (T := TX2) (ci := 2) 13 dX2_isDoubled_6 q2501 rfl in_X2 (Nat.le_of_ble_eq_true rfl) (Or.inl rfl) hh12 hk13 ?_
  refine v_iconst (v := 2) dX2_isDoubled_9 (by decide) ?_
  refine v_iload_n (i := 1) dX2_isDoubled_10 rfl rfl ?_
  refine v_imul dX2_isDoubled_11 ?_
  obtain ⟨a14, rfl⟩ := aI_s hf
  replace hf := aI_e hf
  obtain ⟨w15, N16, f17, hh18, hi19, i20, ei20, hf⟩ := hf
  refine v_iald dX2_isDoubled_12 hh18 hi19 ?_
  rw [← ei20]
  refine v_sipush (v := 9999) dX2_isDoubled_13 (by decide) ?_
  refine v_icmp_ge 39 dX2_isDoubled_16 (by decide) (fun c21 => ?_) (fun c21 => ?_)
  · replace hf := hf.1 c21
    refine v_iconst (v := 0) dX2_isDoubled_39 (by decide) ?_
    exact v_zret dX2_isDoubled_40 rfl (by decide) ⟨_, rfl, hf⟩
  · replace hf := hf.2 c21
    refine v_qload_n (r := (some a0)) (i := 0) dX2_isDoubled_19 rfl rfl ?_
    replace hf := gR_e hf
    obtain ⟨w23, fs24, r22, hh25, hk26, hf⟩ := hf
    refine v_getf (T := TX2) (ci := 2) 13 dX2_isDoubled_20 q2501 rfl in_X2 (Nat.le_of_ble_eq_true rfl) (Or.inl rfl) hh25 hk26 ?_
    refine v_iconst (v := 2) dX2_isDoubled_23 (by decide) ?_
    refine v_iload_n (i := 1) dX2_isDoubled_24 rfl rfl ?_
    refine v_imul dX2_isDoubled_25 ?_
    refine v_iconst (v := 1) dX2_isDoubled_26 (by decide) ?_
    refine v_iadd dX2_isDoubled_27 ?_
    obtain ⟨a27, rfl⟩ := aI_s hf
    replace hf := aI_e hf
    obtain ⟨w28, N29, f30, hh31, hi32, i33, ei33, hf⟩ := hf
    refine v_iald dX2_isDoubled_28 hh31 hi32 ?_
    rw [← ei33]
    refine v_sipush (v := 9999) dX2_isDoubled_29 (by decide) ?_
    refine v_icmp_ge 39 dX2_isDoubled_32 (by decide) (fun c34 => ?_) (fun c34 => ?_)
    · replace hf := hf.1 c34
      refine v_iconst (v := 0) dX2_isDoubled_39 (by decide) ?_
      exact v_zret dX2_isDoubled_40 rfl (by decide) ⟨_, rfl, hf⟩
    · replace hf := hf.2 c34
      refine v_iconst (v := 1) dX2_isDoubled_35 (by decide) ?_
      refine v_goto 40 dX2_isDoubled_36 (by decide) ?_
      exact v_zret dX2_isDoubled_40 rfl (by decide) ⟨_, rfl, hf⟩
abbrev Y_X2_roomOf : Yt := (yX2_roomOf, some (.int), 7, 174, [])
def f_X2_roomOf (G : Gt) (h : Hp) (k n : Nat) (t_0 : Option Nat) (i_1 : Int32) (i_2 : Int32) (K : Int32 → Hp → Prop) : Prop :=
rv h t_0 2 (f_X2_isRoom G h t_0 i_1 (fun i5 h4 =>
((¬ (i5 = 0) → f_X2_in G h4 i_2 (0 : Int32) (6 : Int32) (fun i8 h7 =>
((¬ (i8 = 0) → (((4 : Int32) ≤ i_2 → ((¬ (i_2 = (4 : Int32)) → ((¬ (i_2 = (5 : Int32)) → rv h7 t_0 2 (dV G Y_X2_spreadsNow cX2_spreadsNow 2 [va_rf t_0, .int (1 : Int32)] h7 k n (fun h16 k19 n20 =>
rv h16 t_0 2 (f_X2_fewest G h16 t_0 i_1 (fun i25 h24 =>
((¬ (i25 = (9999 : Int32)) → rv h24 t_0 2 (f_X2_fewest G h24 t_0 i_1 (fun i31 h30 =>
K i31 h30))) ∧
(i25 = (9999 : Int32) → K (-1015 : Int32) h24))))) xN)) ∧
(i_2 = (5 : Int32) → rv h7 t_0 2 (dI G Y_X2_isDoubled cX2_isDoubled 2 [va_rf t_0, .int i_1] h7 k n (fun i36 h35 k39 n40 =>
((i36 = 0 → K (0 : Int32) h35) ∧
(¬ (i36 = 0) → K (1 : Int32) h35))) xN)))) ∧
(i_2 = (4 : Int32) → rv h7 t_0 2 (dI G Y_X2_doorsOf cX2_doorsOf 4 [va_rf t_0, .int i_1] h7 k n (fun i46 h45 k49 n50 =>
K i46 h45) xN)))) ∧
(¬ ((4 : Int32) ≤ i_2) → gR h7 t_0 2 0 fun r51 =>
aI h7 r51 0 (((10 : Int32) + ((4 : Int32) * i_1)) + i_2) fun i62 =>
K i62 h7))) ∧
(i8 = 0 → K (-1012 : Int32) h7)))) ∧
(i5 = 0 → K (-1011 : Int32) h4))))
theorem m_X2_roomOf {G : Gt} {h : Hp} {mc ms : Nat} {a0 : Nat} {i_1 : Int32} {i_2 : Int32} {K : Int32 → Hp → Prop} (hG : Base G) (hA : 0 ≤ mc) (hB : 0 ≤ ms) (hf : f_X2_roomOf G h (mc - 0) (ms - 0) (some a0) i_1 i_2 K) : MM G Y_X2_roomOf cX2_roomOf 3 mc ms [.ref a0, .int i_1, .int i_2] h (kI K) xN := by
  refine mm_of hG (by decide +kernel) rfl (ac_c rfl (ac_c rfl (ac_c rfl ac_nil))) (Nat.le_of_ble_eq_true rfl) (fun E _ _ => ?_)
  obtain ⟨k, hk9⟩ : ∃ z, z = mc - 0 := ⟨_, rfl⟩
  obtain ⟨n, hn9⟩ : ∃ z, z = ms - 0 := ⟨_, rfl⟩
  rw [← hk9, ← hn9] at hf
  refine V.weak (k' := k + 0) (n' := n + 0) ?_ (by omega) (by omega)
  show V G E Y_X2_roomOf cX2_roomOf 3 (QM G E (kI K) xN) h (k + 0) (n + 0) 0 [(0, .ref a0), (1, .int i_1), (2, .int i_2)] []
  unfold f_X2_roomOf at hf
  refine v_qload_n (r := (some a0)) (i := 0) dX2_roomOf_0 rfl rfl ?_
  refine v_iload_n (i := 1) dX2_roomOf_1 rfl rfl ?_
  replace hf := rv_e hf
  obtain ⟨w1, fs2, hh3, hf⟩ := hf
  refine V.addK0 ?_
  refine V.addN0 ?_
  refine v_callV (mc := 0) (ms := 0) 1 dX2_roomOf_2 (m_X2_isRoom hG hf) rfl hh3 rfl (lw_V q2565 q2567 qs49 q98 q2568) rfl (by decide +kernel) (by decide) rfl (cat_len (Nat.le_of_ble_eq_true rfl)) (kk_I fun i5 h4 hg => ?_) (fun _ _ _ hx => hx.elim)
  replace hf := hg
  clear hg
  refine v_if_ne 12 dX2_roomOf_5 (by decide) (fun c6 => ?_) (fun c6 => ?_)
  · replace hf := hf.1 c6
    refine v_iload_n (i := 2) dX2_roomOf_12 rfl rfl ?_
    refine v_iconst (v := 0) dX2_roomOf_13 (by decide) ?_
    refine v_bipush (v := 6) dX2_roomOf_14 (by decide) ?_
    refine V.addK0 ?_
    refine V.addN0 ?_
    refine v_callS (mc := 0) (ms := 0) 3 dX2_roomOf_16 (m_X2_in hG hf) rfl (lw_S q2547 q2548 q98 q2549) rfl (by decide +kernel) (by decide) rfl (cat_len (Nat.le_of_ble_eq_true rfl)) (kk_I fun i8 h7 hg => ?_) (fun _ _ _ hx => hx.elim)
    replace hf := hg
    clear hg
    refine v_if_ne 26 dX2_roomOf_19 (by decide) (fun c9 => ?_) (fun c9 => ?_)
    · replace hf := hf.1 c9
      refine v_iload_n (i := 2) dX2_roomOf_26 rfl rfl ?_
      refine v_iconst (v := 4) dX2_roomOf_27 (by decide) ?_
      refine v_icmp_ge 45 dX2_roomOf_28 (by decide) (fun c10 => ?_) (fun c10 => ?_)
      · replace hf := hf.1 c10
        refine v_iload_n (i := 2) dX2_roomOf_45 rfl rfl ?_
        refine v_iconst (v := 4) dX2_roomOf_46 (by decide) ?_
        refine v_icmp_ne 56 dX2_roomOf_47 (by decide) (fun c11 => ?_) (fun c11 => ?_)
        · replace hf := hf.1 c11
          refine v_iload_n (i := 2) dX2_roomOf_56 rfl rfl ?_
          refine v_iconst (v := 5) dX2_roomOf_57 (by decide) ?_
          refine v_icmp_ne 75 dX2_roomOf_58 (by decide) (fun c12 => ?_) (fun c12 => ?_)
          · replace hf := hf.1 c12
            refine v_qload_n (r := (some a0)) (i := 0) dX2_roomOf_75 rfl rfl ?_
            refine v_iconst (v := 1) dX2_roomOf_76 (by decide) ?_
            replace hf := rv_e hf
            obtain ⟨w13, fs14, hh15, hf⟩ := hf
            obtain ⟨mc17, ms18, hkmc17, hnms18, hM⟩ := hf
            refine V.weak (k' := ((k - mc17) + 0) + mc17) (n' := ((n - ms18) + 0) + ms18) ?_ (by omega) (by omega)
            refine v_callV 1 dX2_roomOf_77 hM rfl hh15 rfl (lw_V q2703 q2705 qs69 q98 q2706) rfl (by decide +kernel) (by decide) rfl (cat_len (Nat.le_of_ble_eq_true rfl)) (kk_V fun h16 hg => ?_) (fun _ _ _ hx => hx.elim)
            have hf := hg
            clear hg
            refine v_qload_n (r := (some a0)) (i := 0) dX2_roomOf_80 rfl rfl ?_
            refine v_iload_n (i := 1) dX2_roomOf_81 rfl rfl ?_
            replace hf := rv_e hf
            obtain ⟨w21, fs22, hh23, hf⟩ := hf
            refine V.addK0 ?_
            refine V.addN0 ?_
            refine v_callV (mc := 0) (ms := 0) 1 dX2_roomOf_82 (m_X2_fewest hG hf) rfl hh23 rfl (lw_V q2666 q2668 qs64 q98 q2669) rfl (by decide +kernel) (by decide) rfl (cat_len (Nat.le_of_ble_eq_true rfl)) (kk_I fun i25 h24 hg => ?_) (fun _ _ _ hx => hx.elim)
            replace hf := hg
            clear hg
            refine v_sipush (v := 9999) dX2_roomOf_85 (by decide) ?_
            refine v_icmp_ne 97 dX2_roomOf_88 (by decide) (fun c26 => ?_) (fun c26 => ?_)
            · replace hf := hf.1 c26
              refine v_qload_n (r := (some a0)) (i := 0) dX2_roomOf_97 rfl rfl ?_
              refine v_iload_n (i := 1) dX2_roomOf_98 rfl rfl ?_
              replace hf := rv_e hf
              obtain ⟨w27, fs28, hh29, hf⟩ := hf
              refine V.addK0 ?_
              refine V.addN0 ?_
              refine v_callV (mc := 0) (ms := 0) 1 dX2_roomOf_99 (m_X2_fewest hG hf) rfl hh29 rfl (lw_V q2666 q2668 qs64 q98 q2669) rfl (by decide +kernel) (by decide) rfl (cat_len (Nat.le_of_ble_eq_true rfl)) (kk_I fun i31 h30 hg => ?_) (fun _ _ _ hx => hx.elim)
              replace hf := hg
              clear hg
              exact v_iret dX2_roomOf_102 rfl ⟨_, rfl, hf⟩
            · replace hf := hf.2 c26
              refine v_sipush (v := -1015) dX2_roomOf_91 (by decide) ?_
              refine v_goto 102 dX2_roomOf_94 (by decide) ?_
              exact v_iret dX2_roomOf_102 rfl ⟨_, rfl, hf⟩
          · replace hf := hf.2 c12
            refine v_qload_n (r := (some a0)) (i := 0) dX2_roomOf_61 rfl rfl ?_
            refine v_iload_n (i := 1) dX2_roomOf_62 rfl rfl ?_
            replace hf := rv_e hf
            obtain ⟨w32, fs33, hh34, hf⟩ := hf
            obtain ⟨mc37, ms38, hkmc37, hnms38, hM⟩ := hf
            refine V.weak (k' := ((k - mc37) + 0) + mc37) (n' := ((n - ms38) + 0) + ms38) ?_ (by omega) (by omega)
            refine v_callV 1 dX2_roomOf_63 hM rfl hh34 rfl (lw_V q2699 q2701 qs68 q98 q2702) rfl (by decide +kernel) (by decide) rfl (cat_len (Nat.le_of_ble_eq_true rfl)) (kk_I fun i36 h35 hg => ?_) (fun _ _ _ hx => hx.elim)
            have hf := hg
            clear hg
            refine v_if_eq 73 dX2_roomOf_66 (by decide) (fun c41 => ?_) (fun c41 => ?_)
            · replace hf := hf.1 c41
              refine v_iconst (v := 0) dX2_roomOf_73 (by decide) ?_
              exact v_iret dX2_roomOf_74 rfl ⟨_, rfl, hf⟩
            · replace hf := hf.2 c41
              refine v_iconst (v := 1) dX2_roomOf_69 (by decide) ?_
              refine v_goto 74 dX2_roomOf_70 (by decide) ?_
              exact v_iret dX2_roomOf_74 rfl ⟨_, rfl, hf⟩
        · replace hf := hf.2 c11
          refine v_qload_n (r := (some a0)) (i := 0) dX2_roomOf_50 rfl rfl ?_
          refine v_iload_n (i := 1) dX2_roomOf_51 rfl rfl ?_
          replace hf := rv_e hf
          obtain ⟨w42, fs43, hh44, hf⟩ := hf
          obtain ⟨mc47, ms48, hkmc47, hnms48, hM⟩ := hf
          refine V.weak (k' := ((k - mc47) + 0) + mc47) (n' := ((n - ms48) + 0) + ms48) ?_ (by omega) (by omega)
          refine v_callV 1 dX2_roomOf_52 hM rfl hh44 rfl (lw_V q2695 q2697 qs67 q98 q2698) rfl (by decide +kernel) (by decide) rfl (cat_len (Nat.le_of_ble_eq_true rfl)) (kk_I fun i46 h45 hg => ?_) (fun _ _ _ hx => hx.elim)
          have hf := hg
          clear hg
          exact v_iret dX2_roomOf_55 rfl ⟨_, rfl, hf⟩
      · replace hf := hf.2 c10
        refine v_qload_n (r := (some a0)) (i := 0) dX2_roomOf_31 rfl rfl ?_
        replace hf := gR_e hf
        obtain ⟨w52, fs53, r51, hh54, hk55, hf⟩ := hf
        refine v_getf (T := TX2) (ci := 2) 0 dX2_roomOf_32 q2488 rfl in_X2 (Nat.le_of_ble_eq_true rfl) (Or.inl rfl) hh54 hk55 ?_
        refine v_bipush (v := 10) dX2_roomOf_35 (by decide) ?_
        refine v_iconst (v := 4) dX2_roomOf_37 (by decide) ?_
        refine v_iload_n (i := 1) dX2_roomOf_38 rfl rfl ?_
        refine v_imul dX2_roomOf_39 ?_
        refine v_iadd dX2_roomOf_40 ?_
        refine v_iload_n (i := 2) dX2_roomOf_41 rfl rfl ?_
        refine v_iadd dX2_roomOf_42 ?_
        obtain ⟨a56, rfl⟩ := aI_s hf
        replace hf := aI_e hf
        obtain ⟨w57, N58, f59, hh60, hi61, i62, ei62, hf⟩ := hf
        refine v_iald dX2_roomOf_43 hh60 hi61 ?_
        rw [← ei62]
        exact v_iret dX2_roomOf_44 rfl ⟨_, rfl, hf⟩
    · replace hf := hf.2 c9
      refine v_sipush (v := -1012) dX2_roomOf_22 (by decide) ?_
      exact v_iret dX2_roomOf_25 rfl ⟨_, rfl, hf⟩
  · replace hf := hf.2 c6
    refine v_sipush (v := -1011) dX2_roomOf_8 (by decide) ?_
    exact v_iret dX2_roomOf_11 rfl ⟨_, rfl, hf⟩
abbrev Y_X2_doorOf : Yt := (yX2_doorOf, some (.int), 3, 83, [])
def f_X2_doorOf (G : Gt) (h : Hp) (t_0 : Option Nat) (i_1 : Int32) (i_2 : Int32) (K : Int32 → Hp → Prop) : Prop :=
rv h t_0 2 (f_X2_isDoor G h t_0 i_1 (fun i5 h4 =>
((¬ (i5 = 0) → f_X2_in G h4 i_2 (0 : Int32) (5 : Int32) (fun i8 h7 =>
((i8 = 0 → K (-1012 : Int32) h7) ∧
(¬ (i8 = 0) → rv h7 t_0 2 (f_X2_of G h7 t_0 i_1 i_2 (fun i14 h13 =>
K i14 h13)))))) ∧
(i5 = 0 → K (-1011 : Int32) h4))))
theorem m_X2_doorOf {G : Gt} {h : Hp} {a0 : Nat} {i_1 : Int32} {i_2 : Int32} {K : Int32 → Hp → Prop} (hG : Base G) (hf : f_X2_doorOf G h (some a0) i_1 i_2 K) : MM G Y_X2_doorOf cX2_doorOf 3 0 0 [.ref a0, .int i_1, .int i_2] h (kI K) xN := by
  refine mm_of hG (by decide +kernel) rfl (ac_c rfl (ac_c rfl (ac_c rfl ac_nil))) (Nat.le_of_ble_eq_true rfl) (fun E _ _ => ?_)
  show V G E Y_X2_doorOf cX2_doorOf 3 (QM G E (kI K) xN) h 0 0 0 [(0, .ref a0), (1, .int i_1), (2, .int i_2)] []
  unfold f_X2_doorOf at hf
  refine v_qload_n (r := (some a0)) (i := 0) dX2_doorOf_0 rfl rfl ?_
  refine v_iload_n (i := 1) dX2_doorOf_1 rfl rfl ?_
  replace hf := rv_e hf
  obtain ⟨w1, fs2, hh3, hf⟩ := hf
  refine V.addK0 ?_
  refine V.addN0 ?_
  refine v_callV (mc := 0) (ms := 0) 1 dX2_doorOf_2 (m_X2_isDoor hG hf) rfl hh3 rfl (lw_V q2602 q2604 qs53 q98 q2605) rfl (by decide +kernel) (by decide) rfl (cat_len (Nat.le_of_ble_eq_true rfl)) (kk_I fun i5 h4 hg => ?_) (fun _ _ _ hx => hx.elim)
  replace hf := hg
  clear hg
  refine v_if_ne 14 dX2_doorOf_5 (by decide) (fun c6 => ?_) (fun c6 => ?_)
  · replace hf := hf.1 c6
    refine v_iload_n (i := 2) dX2_doorOf_14 rfl rfl ?_
    refine v_iconst (v := 0) dX2_doorOf_15 (by decide) ?_
    refine v_iconst (v := 5) dX2_doorOf_16 (by decide) ?_
    refine V.addK0 ?_
    refine V.addN0 ?_
    refine v_callS (mc := 0) (ms := 0) 3 dX2_doorOf_17 (m_X2_in hG hf) rfl (lw_S q2547 q2548 q98 q2549) rfl (by decide +kernel) (by decide) rfl (cat_len (Nat.le_of_ble_eq_true rfl)) (kk_I fun i8 h7 hg => ?_) (fun _ _ _ hx => hx.elim)
    replace hf := hg
    clear hg
    refine v_if_eq 32 dX2_doorOf_20 (by decide) (fun c9 => ?_) (fun c9 => ?_)
    · replace hf := hf.1 c9
      refine v_sipush (v := -1012) dX2_doorOf_32 (by decide) ?_
      exact v_iret dX2_doorOf_35 rfl ⟨_, rfl, hf⟩
    · replace hf := hf.2 c9
      refine v_qload_n (r := (some a0)) (i := 0) dX2_doorOf_23 rfl rfl ?_
      refine v_iload_n (i := 1) dX2_doorOf_24 rfl rfl ?_
      refine v_iload_n (i := 2) dX2_doorOf_25 rfl rfl ?_
      replace hf := rv_e hf
      obtain ⟨w10, fs11, hh12, hf⟩ := hf
      refine V.addK0 ?_
      refine V.addN0 ?_
      refine v_callV (mc := 0) (ms := 0) 2 dX2_doorOf_26 (m_X2_of hG hf) rfl hh12 rfl (lw_V q2573 q2575 qs51 q98 q2576) rfl (by decide +kernel) (by decide) rfl (cat_len (Nat.le_of_ble_eq_true rfl)) (kk_I fun i14 h13 hg => ?_) (fun _ _ _ hx => hx.elim)
      replace hf := hg
      clear hg
      refine v_goto 35 dX2_doorOf_29 (by decide) ?_
      exact v_iret dX2_doorOf_35 rfl ⟨_, rfl, hf⟩
  · replace hf := hf.2 c6
    refine v_sipush (v := -1011) dX2_doorOf_8 (by decide) ?_
    refine v_goto 35 dX2_doorOf_11 (by decide) ?_
    exact v_iret dX2_doorOf_35 rfl ⟨_, rfl, hf⟩
abbrev Y_X2_reach : Yt := (yX2_reach, some (.int), 6, 153, [])
def g_X2_reach_0 (G : Gt) (E : Ev) (h : Hp) (k n : Nat) (a0 : Nat) (K : Int32 → Hp → Prop) : Prop :=
gR h (some a0) 2 0 fun r1 =>
aI h r1 0 (0 : Int32) fun i12 =>
((¬ (i12 = 0) → rv h (some a0) 2 (dV G Y_X2_spreadsNow cX2_spreadsNow 2 [va_rf (some a0), .int (1 : Int32)] h k n (fun h17 k20 n21 =>
V G E Y_X2_reach cX2_reach 3 (QM G E (kI K) xN) h17 k20 n21 20 [(0, .ref a0), (1, .int (0 : Int32)), (2, .int (0 : Int32))] []) xN)) ∧
(i12 = 0 → K (0 : Int32) h))
theorem s_X2_reach_0 {G : Gt} {E : Ev} {h : Hp} {k0 n0 : Nat} {a0 : Nat} {K : Int32 → Hp → Prop} (hG : Base G) (hA : 0 ≤ k0) (hB : 0 ≤ n0) (hf : g_X2_reach_0 G E h (k0 - 0) (n0 - 0) a0 K) : V G E Y_X2_reach cX2_reach 3 (QM G E (kI K) xN) h k0 n0 0 [(0, .ref a0)] [] := by
  obtain ⟨k, hk9⟩ : ∃ z, z = k0 - 0 := ⟨_, rfl⟩
  obtain ⟨n, hn9⟩ : ∃ z, z = n0 - 0 := ⟨_, rfl⟩
  rw [← hk9, ← hn9] at hf
  refine V.weak (k' := k + 0) (n' := n + 0) ?_ (by omega) (by omega)
  unfold g_X2_reach_0 at hf
  refine v_aload_n (i := 0) dX2_reach_0 rfl rfl ?_
  replace hf := gR_e hf
  obtain ⟨w2, fs3, r1, hh4, hk5, hf⟩ := hf
  refine v_getf (T := TX2) (ci := 2) 0 dX2_reach_1 q2488 rfl in_X2 (Nat.le_of_ble_eq_true rfl) (Or.inl rfl) hh4 hk5 ?_
  refine v_iconst (v := 0) dX2_reach_4 (by decide) ?_
  obtain ⟨a6, rfl⟩ := aI_s hf
  replace hf := aI_e hf
  obtain ⟨w7, N8, f9, hh10, hi11, i12, ei12, hf⟩ := hf
  refine v_iald dX2_reach_5 hh10 hi11 ?_
  rw [← ei12]
  refine v_if_ne 11 dX2_reach_6 (by decide) (fun c13 => ?_) (fun c13 => ?_)
  · replace hf := hf.1 c13
    refine v_aload_n (i := 0) dX2_reach_11 rfl rfl ?_
    refine v_iconst (v := 1) dX2_reach_12 (by decide) ?_
    replace hf := rv_e hf
    obtain ⟨w14, fs15, hh16, hf⟩ := hf
    obtain ⟨mc18, ms19, hkmc18, hnms19, hM⟩ := hf
    refine V.weak (k' := ((k - mc18) + 0) + mc18) (n' := ((n - ms19) + 0) + ms19) ?_ (by omega) (by omega)
    refine v_callV 1 dX2_reach_13 hM rfl hh16 rfl (lw_V q2703 q2705 qs69 q98 q2706) rfl (by decide +kernel) (by decide) rfl (cat_len (Nat.le_of_ble_eq_true rfl)) (kk_V fun h17 hg => ?_) (fun _ _ _ hx => hx.elim)
    have hf := hg
    clear hg
    refine v_iconst (v := 0) dX2_reach_16 (by decide) ?_
    refine v_istore_n (i := 1) (lv' := [(0, .ref a0), (1, .int (0 : Int32))]) dX2_reach_17 rfl (Nat.le_of_ble_eq_true rfl) rfl rfl ?_
    refine v_iconst (v := 0) dX2_reach_18 (by decide) ?_
    refine v_istore_n (i := 2) (lv' := [(0, .ref a0), (1, .int (0 : Int32)), (2, .int (0 : Int32))]) dX2_reach_19 rfl (Nat.le_of_ble_eq_true rfl) rfl rfl ?_
    exact V.weak hf (by omega) (by omega)
  · replace hf := hf.2 c13
    refine v_iconst (v := 0) dX2_reach_9 (by decide) ?_
    exact v_iret dX2_reach_10 rfl ⟨_, rfl, hf⟩
def g_X2_reach_20 (G : Gt) (E : Ev) (h : Hp) (k n : Nat) (a0 : Nat) (i_1 : Int32) (i_2 : Int32) (K : Int32 → Hp → Prop) : Prop :=
gR h (some a0) 2 0 fun r1 =>
aI h r1 0 (0 : Int32) fun i12 =>
((i12 ≤ i_2 → K i_1 h) ∧
(¬ (i12 ≤ i_2) → rv h (some a0) 2 (f_X2_fewest G h (some a0) i_2 (fun i18 h17 =>
(((9999 : Int32) ≤ i18 → V G E Y_X2_reach cX2_reach 3 (QM G E (kI K) xN) h17 k n 20 [(0, .ref a0), (1, .int (i_1 ||| (0 : Int32))), (2, .int (i_2 + (1 : Int32)))] []) ∧
(¬ ((9999 : Int32) ≤ i18) → V G E Y_X2_reach cX2_reach 3 (QM G E (kI K) xN) h17 k n 20 [(0, .ref a0), (1, .int (i_1 ||| ((1 : Int32) <<< (i_2 &&& 31)))), (2, .int (i_2 + (1 : Int32)))] []))))))
theorem s_X2_reach_20 {G : Gt} {E : Ev} {h : Hp} {k0 n0 : Nat} {a0 : Nat} {i_1 : Int32} {i_2 : Int32} {K : Int32 → Hp → Prop} (hG : Base G) (hA : 0 ≤ k0) (hB : 0 ≤ n0) (hf : g_X2_reach_20 G E h (k0 - 0) (n0 - 0) a0 i_1 i_2 K) : V G E Y_X2_reach cX2_reach 3 (QM G E (kI K) xN) h k0 n0 20 [(0, .ref a0), (1, .int i_1), (2, .int i_2)] [] := by
  obtain ⟨k, hk9⟩ : ∃ z, z = k0 - 0 := ⟨_, rfl⟩
  obtain ⟨n, hn9⟩ : ∃ z, z = n0 - 0 := ⟨_, rfl⟩
  rw [← hk9, ← hn9] at hf
  refine V.weak (k' := k + 0) (n' := n + 0) ?_ (by omega) (by omega)
  unfold g_X2_reach_20 at hf
  refine v_iload_n (i := 2) dX2_reach_20 rfl rfl ?_
  refine v_aload_n (i := 0) dX2_reach_21 rfl rfl ?_
  replace hf := gR_e hf
  obtain ⟨w2, fs3, r1, hh4, hk5, hf⟩ := hf
  refine v_getf (T := TX2) (ci := 2) 0 dX2_reach_22 q2488 rfl in_X2 (Nat.le_of_ble_eq_true rfl) (Or.inl rfl) hh4 hk5 ?_
  refine v_iconst (v := 0) dX2_reach_25 (by decide) ?_
  obtain ⟨a6, rfl⟩ := aI_s hf
  replace hf := aI_e hf
  obtain ⟨w7, N8, f9, hh10, hi11, i12, ei12, hf⟩ := hf
  refine v_iald dX2_reach_26 hh10 hi11 ?_
  rw [← ei12]
  refine v_icmp_ge 57 dX2_reach_27 (by decide) (fun c13 => ?_) (fun c13 => ?_)
  · replace hf := hf.1 c13
    refine v_iload_n (i := 1) dX2_reach_57 rfl rfl ?_
    exact v_iret dX2_reach_58 rfl ⟨_, rfl, hf⟩
  · replace hf := hf.2 c13
    refine v_iload_n (i := 1) dX2_reach_30 rfl rfl ?_
    refine v_aload_n (i := 0) dX2_reach_31 rfl rfl ?_
    refine v_iload_n (i := 2) dX2_reach_32 rfl rfl ?_
    replace hf := rv_e hf
    obtain ⟨w14, fs15, hh16, hf⟩ := hf
    refine V.addK0 ?_
    refine V.addN0 ?_
    refine v_callV (mc := 0) (ms := 0) 1 dX2_reach_33 (m_X2_fewest hG hf) rfl hh16 rfl (lw_V q2666 q2668 qs64 q98 q2669) rfl (by decide +kernel) (by decide) rfl (cat_len (Nat.le_of_ble_eq_true rfl)) (kk_I fun i18 h17 hg => ?_) (fun _ _ _ hx => hx.elim)
    replace hf := hg
    clear hg
    refine v_sipush (v := 9999) dX2_reach_36 (by decide) ?_
    refine v_icmp_ge 48 dX2_reach_39 (by decide) (fun c19 => ?_) (fun c19 => ?_)
    · replace hf := hf.1 c19
      refine v_iconst (v := 0) dX2_reach_48 (by decide) ?_
      refine v_ior dX2_reach_49 ?_
      refine v_istore_n (i := 1) (lv' := [(0, .ref a0), (1, .int (i_1 ||| (0 : Int32))), (2, .int i_2)]) dX2_reach_50 rfl (Nat.le_of_ble_eq_true rfl) rfl rfl ?_
      refine v_iinc (i := 2) (v := i_2 + (1 : Int32)) (lv' := [(0, .ref a0), (1, .int (i_1 ||| (0 : Int32))), (2, .int (i_2 + (1 : Int32)))]) dX2_reach_51 rfl rfl (Nat.le_of_ble_eq_true rfl) rfl rfl ?_
      refine v_goto 20 dX2_reach_54 (by decide) ?_
      exact V.weak hf (by omega) (by omega)
    · replace hf := hf.2 c19
      refine v_iconst (v := 1) dX2_reach_42 (by decide) ?_
      refine v_iload_n (i := 2) dX2_reach_43 rfl rfl ?_
      refine v_ishl dX2_reach_44 ?_
      refine v_goto 49 dX2_reach_45 (by decide) ?_
      refine v_ior dX2_reach_49 ?_
      refine v_istore_n (i := 1) (lv' := [(0, .ref a0), (1, .int (i_1 ||| ((1 : Int32) <<< (i_2 &&& 31)))), (2, .int i_2)]) dX2_reach_50 rfl (Nat.le_of_ble_eq_true rfl) rfl rfl ?_
      refine v_iinc (i := 2) (v := i_2 + (1 : Int32)) (lv' := [(0, .ref a0), (1, .int (i_1 ||| ((1 : Int32) <<< (i_2 &&& 31)))), (2, .int (i_2 + (1 : Int32)))]) dX2_reach_51 rfl rfl (Nat.le_of_ble_eq_true rfl) rfl rfl ?_
      refine v_goto 20 dX2_reach_54 (by decide) ?_
      exact V.weak hf (by omega) (by omega)
theorem b_X2_reach {G : Gt} {h : Hp} {mc ms : Nat} {a0 : Nat} {K : Int32 → Hp → Prop} (hG : Base G) (hf : ∀ E : Ev, V G E Y_X2_reach cX2_reach 3 (QM G E (kI K) xN) h mc ms 0 [(0, .ref a0)] []) : MM G Y_X2_reach cX2_reach 3 mc ms [.ref a0] h (kI K) xN := mm_of hG (by decide +kernel) rfl (ac_c rfl ac_nil) (Nat.le_of_ble_eq_true rfl) (fun E _ _ => hf E)
abbrev Y_X2_nearestKey : Yt := (yX2_nearestKey, some (.int), 6, 153, [])
def g_X2_nearestKey_0 (G : Gt) (E : Ev) (h : Hp) (k n : Nat) (a0 : Nat) (i_1 : Int32) (K : Int32 → Hp → Prop) : Prop :=
f_X2_isColour G h i_1 (fun i2 h1 =>
((¬ (i2 = 0) → gR h1 (some a0) 2 0 fun r4 =>
aI h1 r4 0 (0 : Int32) fun i15 =>
((¬ (i15 = 0) → rv h1 (some a0) 2 (dV G Y_X2_spreadsNow cX2_spreadsNow 2 [va_rf (some a0), .int (1 : Int32)] h1 k n (fun h20 k23 n24 =>
V G E Y_X2_nearestKey cX2_nearestKey 4 (QM G E (kI K) xN) h20 k23 n24 33 [(0, .ref a0), (1, .int i_1), (2, .int (-1 : Int32)), (3, .int (0 : Int32))] []) xN)) ∧
(i15 = 0 → K (-1015 : Int32) h1))) ∧
(i2 = 0 → K (-1012 : Int32) h1)))
theorem s_X2_nearestKey_0 {G : Gt} {E : Ev} {h : Hp} {k0 n0 : Nat} {a0 : Nat} {i_1 : Int32} {K : Int32 → Hp → Prop} (hG : Base G) (hA : 0 ≤ k0) (hB : 0 ≤ n0) (hf : g_X2_nearestKey_0 G E h (k0 - 0) (n0 - 0) a0 i_1 K) : V G E Y_X2_nearestKey cX2_nearestKey 4 (QM G E (kI K) xN) h k0 n0 0 [(0, .ref a0), (1, .int i_1)] [] := by
  obtain ⟨k, hk9⟩ : ∃ z, z = k0 - 0 := ⟨_, rfl⟩
  obtain ⟨n, hn9⟩ : ∃ z, z = n0 - 0 := ⟨_, rfl⟩
  rw [← hk9, ← hn9] at hf
  refine V.weak (k' := k + 0) (n' := n + 0) ?_ (by omega) (by omega)
  unfold g_X2_nearestKey_0 at hf
  refine v_iload_n (i := 1) dX2_nearestKey_0 rfl rfl ?_
  refine V.addK0 ?_
  refine V.addN0 ?_
  refine v_callS (mc := 0) (ms := 0) 1 dX2_nearestKey_1 (m_X2_isColour hG hf) rfl (lw_S q2587 q2588 q98 q2589) rfl (by decide +kernel) (by decide) rfl (cat_len (Nat.le_of_ble_eq_true rfl)) (kk_I fun i2 h1 hg => ?_) (fun _ _ _ hx => hx.elim)
  replace hf := hg
  clear hg
  refine v_if_ne 11 dX2_nearestKey_4 (by decide) (fun c3 => ?_) (fun c3 => ?_)
  · replace hf := hf.1 c3
    refine v_aload_n (i := 0) dX2_nearestKey_11 rfl rfl ?_
    replace hf := gR_e hf
    obtain ⟨w5, fs6, r4, hh7, hk8, hf⟩ := hf
    refine v_getf (T := TX2) (ci := 2) 0 dX2_nearestKey_12 q2488 rfl in_X2 (Nat.le_of_ble_eq_true rfl) (Or.inl rfl) hh7 hk8 ?_
    refine v_iconst (v := 0) dX2_nearestKey_15 (by decide) ?_
    obtain ⟨a9, rfl⟩ := aI_s hf
    replace hf := aI_e hf
    obtain ⟨w10, N11, f12, hh13, hi14, i15, ei15, hf⟩ := hf
    refine v_iald dX2_nearestKey_16 hh13 hi14 ?_
    rw [← ei15]
    refine v_if_ne 24 dX2_nearestKey_17 (by decide) (fun c16 => ?_) (fun c16 => ?_)
    · replace hf := hf.1 c16
      refine v_aload_n (i := 0) dX2_nearestKey_24 rfl rfl ?_
      refine v_iconst (v := 1) dX2_nearestKey_25 (by decide) ?_
      replace hf := rv_e hf
      obtain ⟨w17, fs18, hh19, hf⟩ := hf
      obtain ⟨mc21, ms22, hkmc21, hnms22, hM⟩ := hf
      refine V.weak (k' := ((k - mc21) + 0) + mc21) (n' := ((n - ms22) + 0) + ms22) ?_ (by omega) (by omega)
      refine v_callV 1 dX2_nearestKey_26 hM rfl hh19 rfl (lw_V q2703 q2705 qs69 q98 q2706) rfl (by decide +kernel) (by decide) rfl (cat_len (Nat.le_of_ble_eq_true rfl)) (kk_V fun h20 hg => ?_) (fun _ _ _ hx => hx.elim)
      have hf := hg
      clear hg
      refine v_iconst (v := -1) dX2_nearestKey_29 (by decide) ?_
      refine v_istore_n (i := 2) (lv' := [(0, .ref a0), (1, .int i_1), (2, .int (-1 : Int32))]) dX2_nearestKey_30 rfl (Nat.le_of_ble_eq_true rfl) rfl rfl ?_
      refine v_iconst (v := 0) dX2_nearestKey_31 (by decide) ?_
      refine v_istore_n (i := 3) (lv' := [(0, .ref a0), (1, .int i_1), (2, .int (-1 : Int32)), (3, .int (0 : Int32))]) dX2_nearestKey_32 rfl (Nat.le_of_ble_eq_true rfl) rfl rfl ?_
      exact V.weak hf (by omega) (by omega)
    · replace hf := hf.2 c16
      refine v_sipush (v := -1015) dX2_nearestKey_20 (by decide) ?_
      exact v_iret dX2_nearestKey_23 rfl ⟨_, rfl, hf⟩
  · replace hf := hf.2 c3
    refine v_sipush (v := -1012) dX2_nearestKey_7 (by decide) ?_
    exact v_iret dX2_nearestKey_10 rfl ⟨_, rfl, hf⟩
def g_X2_nearestKey_33 (G : Gt) (E : Ev) (h : Hp) (k n : Nat) (a0 : Nat) (i_1 : Int32) (i_2 : Int32) (i_3 : Int32) (K : Int32 → Hp → Prop) : Prop :=
gR h (some a0) 2 0 fun r1 =>
aI h r1 0 (0 : Int32) fun i12 =>
((i12 ≤ i_3 → ((0 ≤ i_2 → K i_2 h) ∧
(¬ (0 ≤ i_2) → K (-1015 : Int32) h))) ∧
(¬ (i12 ≤ i_3) → gR h (some a0) 2 0 fun r15 =>
aI h r15 0 ((((10 : Int32) + ((4 : Int32) * i_3)) + (1 : Int32)) + i_1) fun i26 =>
((i26 ≤ 0 → V G E Y_X2_nearestKey cX2_nearestKey 4 (QM G E (kI K) xN) h k n 33 [(0, .ref a0), (1, .int i_1), (2, .int i_2), (3, .int (i_3 + (1 : Int32)))] []) ∧
(¬ (i26 ≤ 0) → rv h (some a0) 2 (f_X2_fewest G h (some a0) i_3 (fun i32 h31 =>
(((9999 : Int32) ≤ i32 → V G E Y_X2_nearestKey cX2_nearestKey 4 (QM G E (kI K) xN) h31 k n 33 [(0, .ref a0), (1, .int i_1), (2, .int i_2), (3, .int (i_3 + (1 : Int32)))] []) ∧
(¬ ((9999 : Int32) ≤ i32) → ((i_2 < 0 → V G E Y_X2_nearestKey cX2_nearestKey 4 (QM G E (kI K) xN) h31 k n 33 [(0, .ref a0), (1, .int i_1), (2, .int i_3), (3, .int (i_3 + (1 : Int32)))] []) ∧
(¬ (i_2 < 0) → rv h31 (some a0) 2 (f_X2_fewest G h31 (some a0) i_3 (fun i39 h38 =>
rv h38 (some a0) 2 (f_X2_fewest G h38 (some a0) i_2 (fun i44 h43 =>
((i44 ≤ i39 → V G E Y_X2_nearestKey cX2_nearestKey 4 (QM G E (kI K) xN) h43 k n 33 [(0, .ref a0), (1, .int i_1), (2, .int i_2), (3, .int (i_3 + (1 : Int32)))] []) ∧
(¬ (i44 ≤ i39) → V G E Y_X2_nearestKey cX2_nearestKey 4 (QM G E (kI K) xN) h43 k n 33 [(0, .ref a0), (1, .int i_1), (2, .int i_3), (3, .int (i_3 + (1 : Int32)))] []))))))))))))))))
theorem s_X2_nearestKey_33 {G : Gt} {E : Ev} {h : Hp} {k0 n0 : Nat} {a0 : Nat} {i_1 : Int32} {i_2 : Int32} {i_3 : Int32} {K : Int32 → Hp → Prop} (hG : Base G) (hA : 0 ≤ k0) (hB : 0 ≤ n0) (hf : g_X2_nearestKey_33 G E h (k0 - 0) (n0 - 0) a0 i_1 i_2 i_3 K) : V G E Y_X2_nearestKey cX2_nearestKey 4 (QM G E (kI K) xN) h k0 n0 33 [(0, .ref a0), (1, .int i_1), (2, .int i_2), (3, .int i_3)] [] := by
  obtain ⟨k, hk9⟩ : ∃ z, z = k0 - 0 := ⟨_, rfl⟩
  obtain ⟨n, hn9⟩ : ∃ z, z = n0 - 0 := ⟨_, rfl⟩
  rw [← hk9, ← hn9] at hf
  refine V.weak (k' := k + 0) (n' := n + 0) ?_ (by omega) (by omega)
  unfold g_X2_nearestKey_33 at hf
  refine v_iload_n (i := 3) dX2_nearestKey_33 rfl rfl ?_
  refine v_aload_n (i := 0) dX2_nearestKey_34 rfl rfl ?_
  replace hf := gR_e hf
  obtain ⟨w2, fs3, r1, hh4, hk5, hf⟩ := hf
  refine v_getf (T := TX2) (ci := 2) 0 dX2_nearestKey_35 q2488 rfl in_X2 (Nat.le_of_ble_eq_true rfl) (Or.inl rfl) hh4 hk5 ?_
  refine v_iconst (v := 0) dX2_nearestKey_38 (by decide) ?_
  obtain ⟨a6, rfl⟩ := aI_s hf
  replace hf := aI_e hf
  obtain ⟨w7, N8, f9, hh10, hi11, i12, ei12, hf⟩ := hf
  refine v_iald dX2_nearestKey_39 hh10 hi11 ?_
  rw [← ei12]
  refine v_icmp_ge 97 dX2_nearestKey_40 (by decide) (fun c13 => ?_) (fun c13 => ?_)
  · replace hf := hf.1 c13
    refine v_iload_n (i := 2) dX2_nearestKey_97 rfl rfl ?_
    refine v_if_ge 107 dX2_nearestKey_98 (by decide) (fun c14 => ?_) (fun c14 => ?_)
    · replace hf := hf.1 c14
      refine v_iload_n (i := 2) dX2_nearestKey_107 rfl rfl ?_
      exact v_iret dX2_nearestKey_108 rfl ⟨_, rfl, hf⟩
    · replace hf := hf.2 c14
      refine v_sipush (v := -1015) dX2_nearestKey_101 (by decide) ?_
      refine v_goto 108 dX2_nearestKey_104 (by decide) ?_
      exact v_iret dX2_nearestKey_108 rfl ⟨_, rfl, hf⟩
  · replace hf := hf.2 c13
    refine v_aload_n (i := 0) dX2_nearestKey_43 rfl rfl ?_
    replace hf := gR_e hf
    obtain ⟨w16, fs17, r15, hh18, hk19, hf⟩ := hf
    refine v_getf (T := TX2) (ci := 2) 0 dX2_nearestKey_44 q2488 rfl in_X2 (Nat.le_of_ble_eq_true rfl) (Or.inl rfl) hh18 hk19 ?_
    refine v_bipush (v := 10) dX2_nearestKey_47 (by decide) ?_
    refine v_iconst (v := 4) dX2_nearestKey_49 (by decide) ?_
    refine v_iload_n (i := 3) dX2_nearestKey_50 rfl rfl ?_
    refine v_imul dX2_nearestKey_51 ?_
    refine v_iadd dX2_nearestKey_52 ?_
    refine v_iconst (v := 1) dX2_nearestKey_53 (by decide) ?_
    refine v_iadd dX2_nearestKey_54 ?_
    refine v_iload_n (i := 1) dX2_nearestKey_55 rfl rfl ?_
    refine v_iadd dX2_nearestKey_56 ?_
    obtain ⟨a20, rfl⟩ := aI_s hf
    replace hf := aI_e hf
    obtain ⟨w21, N22, f23, hh24, hi25, i26, ei26, hf⟩ := hf
    refine v_iald dX2_nearestKey_57 hh24 hi25 ?_
    rw [← ei26]
    refine v_if_le 91 dX2_nearestKey_58 (by decide) (fun c27 => ?_) (fun c27 => ?_)
    · replace hf := hf.1 c27
      refine v_iinc (i := 3) (v := i_3 + (1 : Int32)) (lv' := [(0, .ref a0), (1, .int i_1), (2, .int i_2), (3, .int (i_3 + (1 : Int32)))]) dX2_nearestKey_91 rfl rfl (Nat.le_of_ble_eq_true rfl) rfl rfl ?_
      refine v_goto 33 dX2_nearestKey_94 (by decide) ?_
      exact V.weak hf (by omega) (by omega)
    · replace hf := hf.2 c27
      refine v_aload_n (i := 0) dX2_nearestKey_61 rfl rfl ?_
      refine v_iload_n (i := 3) dX2_nearestKey_62 rfl rfl ?_
      replace hf := rv_e hf
      obtain ⟨w28, fs29, hh30, hf⟩ := hf
      refine V.addK0 ?_
      refine V.addN0 ?_
      refine v_callV (mc := 0) (ms := 0) 1 dX2_nearestKey_63 (m_X2_fewest hG hf) rfl hh30 rfl (lw_V q2666 q2668 qs64 q98 q2669) rfl (by decide +kernel) (by decide) rfl (cat_len (Nat.le_of_ble_eq_true rfl)) (kk_I fun i32 h31 hg => ?_) (fun _ _ _ hx => hx.elim)
      replace hf := hg
      clear hg
      refine v_sipush (v := 9999) dX2_nearestKey_66 (by decide) ?_
      refine v_icmp_ge 91 dX2_nearestKey_69 (by decide) (fun c33 => ?_) (fun c33 => ?_)
      · replace hf := hf.1 c33
        refine v_iinc (i := 3) (v := i_3 + (1 : Int32)) (lv' := [(0, .ref a0), (1, .int i_1), (2, .int i_2), (3, .int (i_3 + (1 : Int32)))]) dX2_nearestKey_91 rfl rfl (Nat.le_of_ble_eq_true rfl) rfl rfl ?_
        refine v_goto 33 dX2_nearestKey_94 (by decide) ?_
        exact V.weak hf (by omega) (by omega)
      · replace hf := hf.2 c33
        refine v_iload_n (i := 2) dX2_nearestKey_72 rfl rfl ?_
        refine v_if_lt 89 dX2_nearestKey_73 (by decide) (fun c34 => ?_) (fun c34 => ?_)
        · replace hf := hf.1 c34
          refine v_iload_n (i := 3) dX2_nearestKey_89 rfl rfl ?_
          refine v_istore_n (i := 2) (lv' := [(0, .ref a0), (1, .int i_1), (2, .int i_3), (3, .int i_3)]) dX2_nearestKey_90 rfl (Nat.le_of_ble_eq_true rfl) rfl rfl ?_
          refine v_iinc (i := 3) (v := i_3 + (1 : Int32)) (lv' := [(0, .ref a0), (1, .int i_1), (2, .int i_3), (3, .int (i_3 + (1 : Int32)))]) dX2_nearestKey_91 rfl rfl (Nat.le_of_ble_eq_true rfl) rfl rfl ?_
          refine v_goto 33 dX2_nearestKey_94 (by decide) ?_
          exact V.weak hf (by omega) (by omega)
        · replace hf := hf.2 c34
          refine v_aload_n (i := 0) dX2_nearestKey_76 rfl rfl ?_
          refine v_iload_n (i := 3) dX2_nearestKey_77 rfl rfl ?_
          replace hf := rv_e hf
          obtain ⟨w35, fs36, hh37, hf⟩ := hf
          refine V.addK0 ?_
          refine V.addN0 ?_
          refine v_callV (mc := 0) (ms := 0) 1 dX2_nearestKey_78 (m_X2_fewest hG hf) rfl hh37 rfl (lw_V q2666 q2668 qs64 q98 q2669) rfl (by decide +kernel) (by decide) rfl (cat_len (Nat.le_of_ble_eq_true rfl)) (kk_I fun i39 h38 hg => ?_) (fun _ _ _ hx => hx.elim)
          replace hf := hg
          clear hg
          refine v_aload_n (i := 0) dX2_nearestKey_81 rfl rfl ?_
          refine v_iload_n (i := 2) dX2_nearestKey_82 rfl rfl ?_
          replace hf := rv_e hf
          obtain ⟨w40, fs41, hh42, hf⟩ := hf
          refine V.addK0 ?_
          refine V.addN0 ?_
          refine v_callV (mc := 0) (ms := 0) 1 dX2_nearestKey_83 (m_X2_fewest hG hf) rfl hh42 rfl (lw_V q2666 q2668 qs64 q98 q2669) rfl (by decide +kernel) (by decide) rfl (cat_len (Nat.le_of_ble_eq_true rfl)) (kk_I fun i44 h43 hg => ?_) (fun _ _ _ hx => hx.elim)
          replace hf := hg
          clear hg
          refine v_icmp_ge 91 dX2_nearestKey_86 (by decide) (fun c45 => ?_) (fun c45 => ?_)
          · replace hf := hf.1 c45
            refine v_iinc (i := 3) (v := i_3 + (1 : Int32)) (lv' := [(0, .ref a0), (1, .int i_1), (2, .int i_2), (3, .int (i_3 + (1 : Int32)))]) dX2_nearestKey_91 rfl rfl (Nat.le_of_ble_eq_true rfl) rfl rfl ?_
            refine v_goto 33 dX2_nearestKey_94 (by decide) ?_
            exact V.weak hf (by omega) (by omega)
          · replace hf := hf.2 c45
            refine v_iload_n (i := 3) dX2_nearestKey_89 rfl rfl ?_
            refine v_istore_n (i := 2) (lv' := [(0, .ref a0), (1, .int i_1), (2, .int i_3), (3, .int i_3)]) dX2_nearestKey_90 rfl (Nat.le_of_ble_eq_true rfl) rfl rfl ?_
            refine v_iinc (i := 3) (v := i_3 + (1 : Int32)) (lv' := [(0, .ref a0), (1, .int i_1), (2, .int i_3), (3, .int (i_3 + (1 : Int32)))]) dX2_nearestKey_91 rfl rfl (Nat.le_of_ble_eq_true rfl) rfl rfl ?_
            refine v_goto 33 dX2_nearestKey_94 (by decide) ?_
            exact V.weak hf (by omega) (by omega)
theorem b_X2_nearestKey {G : Gt} {h : Hp} {mc ms : Nat} {a0 : Nat} {i_1 : Int32} {K : Int32 → Hp → Prop} (hG : Base G) (hf : ∀ E : Ev, V G E Y_X2_nearestKey cX2_nearestKey 4 (QM G E (kI K) xN) h mc ms 0 [(0, .ref a0), (1, .int i_1)] []) : MM G Y_X2_nearestKey cX2_nearestKey 4 mc ms [.ref a0, .int i_1] h (kI K) xN := mm_of hG (by decide +kernel) rfl (ac_c rfl (ac_c rfl ac_nil)) (Nat.le_of_ble_eq_true rfl) (fun E _ _ => hf E)
abbrev Y_X2_ranked : Yt := (yX2_ranked, some (.int), 6, 153, [])
def g_X2_ranked_0 (G : Gt) (E : Ev) (h : Hp) (k n : Nat) (a0 : Nat) (i_1 : Int32) (K : Int32 → Hp → Prop) : Prop :=
gR h (some a0) 2 0 fun r1 =>
aI h r1 0 (0 : Int32) fun i12 =>
((i12 ≤ 0 → V G E Y_X2_ranked cX2_ranked 5 (QM G E (kI K) xN) h k n 16 [(0, .ref a0), (1, .int i_1), (2, .int (0 : Int32))] []) ∧
(¬ (i12 ≤ 0) → rv h (some a0) 2 (dV G Y_X2_spreadsNow cX2_spreadsNow 2 [va_rf (some a0), .int (1 : Int32)] h k n (fun h17 k20 n21 =>
V G E Y_X2_ranked cX2_ranked 5 (QM G E (kI K) xN) h17 k20 n21 16 [(0, .ref a0), (1, .int i_1), (2, .int (0 : Int32))] []) xN)))
theorem s_X2_ranked_0 {G : Gt} {E : Ev} {h : Hp} {k0 n0 : Nat} {a0 : Nat} {i_1 : Int32} {K : Int32 → Hp → Prop} (hG : Base G) (hA : 0 ≤ k0) (hB : 0 ≤ n0) (hf : g_X2_ranked_0 G E h (k0 - 0) (n0 - 0) a0 i_1 K) : V G E Y_X2_ranked cX2_ranked 5 (QM G E (kI K) xN) h k0 n0 0 [(0, .ref a0), (1, .int i_1)] [] := by
  obtain ⟨k, hk9⟩ : ∃ z, z = k0 - 0 := ⟨_, rfl⟩
  obtain ⟨n, hn9⟩ : ∃ z, z = n0 - 0 := ⟨_, rfl⟩
  rw [← hk9, ← hn9] at hf
  refine V.weak (k' := k + 0) (n' := n + 0) ?_ (by omega) (by omega)
  unfold g_X2_ranked_0 at hf
  refine v_aload_n (i := 0) dX2_ranked_0 rfl rfl ?_
  replace hf := gR_e hf
  obtain ⟨w2, fs3, r1, hh4, hk5, hf⟩ := hf
  refine v_getf (T := TX2) (ci := 2) 0 dX2_ranked_1 q2488 rfl in_X2 (Nat.le_of_ble_eq_true rfl) (Or.inl rfl) hh4 hk5 ?_
  refine v_iconst (v := 0) dX2_ranked_4 (by decide) ?_
  obtain ⟨a6, rfl⟩ := aI_s hf
  replace hf := aI_e hf
  obtain ⟨w7, N8, f9, hh10, hi11, i12, ei12, hf⟩ := hf
  refine v_iald dX2_ranked_5 hh10 hi11 ?_
  rw [← ei12]
  refine v_if_le 14 dX2_ranked_6 (by decide) (fun c13 => ?_) (fun c13 => ?_)
  · replace hf := hf.1 c13
    refine v_iconst (v := 0) dX2_ranked_14 (by decide) ?_
    refine v_istore_n (i := 2) (lv' := [(0, .ref a0), (1, .int i_1), (2, .int (0 : Int32))]) dX2_ranked_15 rfl (Nat.le_of_ble_eq_true rfl) rfl rfl ?_
    exact V.weak hf (by omega) (by omega)
  · replace hf := hf.2 c13
    refine v_aload_n (i := 0) dX2_ranked_9 rfl rfl ?_
    refine v_iconst (v := 1) dX2_ranked_10 (by decide) ?_
    replace hf := rv_e hf
    obtain ⟨w14, fs15, hh16, hf⟩ := hf
    obtain ⟨mc18, ms19, hkmc18, hnms19, hM⟩ := hf
    refine V.weak (k' := ((k - mc18) + 0) + mc18) (n' := ((n - ms19) + 0) + ms19) ?_ (by omega) (by omega)
    refine v_callV 1 dX2_ranked_11 hM rfl hh16 rfl (lw_V q2703 q2705 qs69 q98 q2706) rfl (by decide +kernel) (by decide) rfl (cat_len (Nat.le_of_ble_eq_true rfl)) (kk_V fun h17 hg => ?_) (fun _ _ _ hx => hx.elim)
    have hf := hg
    clear hg
    refine v_iconst (v := 0) dX2_ranked_14 (by decide) ?_
    refine v_istore_n (i := 2) (lv' := [(0, .ref a0), (1, .int i_1), (2, .int (0 : Int32))]) dX2_ranked_15 rfl (Nat.le_of_ble_eq_true rfl) rfl rfl ?_
    exact V.weak hf (by omega) (by omega)
def g_X2_ranked_16 (G : Gt) (E : Ev) (h : Hp) (k n : Nat) (a0 : Nat) (i_1 : Int32) (i_2 : Int32) (K : Int32 → Hp → Prop) : Prop :=
gR h (some a0) 2 0 fun r1 =>
aI h r1 0 (0 : Int32) fun i12 =>
((i12 ≤ i_2 → K (-1011 : Int32) h) ∧
(¬ (i12 ≤ i_2) → V G E Y_X2_ranked cX2_ranked 5 (QM G E (kI K) xN) h k n 31 [(0, .ref a0), (1, .int i_1), (2, .int i_2), (3, .int (0 : Int32)), (4, .int (0 : Int32))] []))
theorem s_X2_ranked_16 {G : Gt} {E : Ev} {h : Hp} {k0 n0 : Nat} {a0 : Nat} {i_1 : Int32} {i_2 : Int32} {K : Int32 → Hp → Prop} (hG : Base G) (hA : 0 ≤ k0) (hB : 0 ≤ n0) (hf : g_X2_ranked_16 G E h (k0 - 0) (n0 - 0) a0 i_1 i_2 K) : V G E Y_X2_ranked cX2_ranked 5 (QM G E (kI K) xN) h k0 n0 16 [(0, .ref a0), (1, .int i_1), (2, .int i_2)] [] := by
  obtain ⟨k, hk9⟩ : ∃ z, z = k0 - 0 := ⟨_, rfl⟩
  obtain ⟨n, hn9⟩ : ∃ z, z = n0 - 0 := ⟨_, rfl⟩
  rw [← hk9, ← hn9] at hf
  refine V.weak (k' := k + 0) (n' := n + 0) ?_ (by omega) (by omega)
  unfold g_X2_ranked_16 at hf
  refine v_iload_n (i := 2) dX2_ranked_16 rfl rfl ?_
  refine v_aload_n (i := 0) dX2_ranked_17 rfl rfl ?_
  replace hf := gR_e hf
  obtain ⟨w2, fs3, r1, hh4, hk5, hf⟩ := hf
  refine v_getf (T := TX2) (ci := 2) 0 dX2_ranked_18 q2488 rfl in_X2 (Nat.le_of_ble_eq_true rfl) (Or.inl rfl) hh4 hk5 ?_
  refine v_iconst (v := 0) dX2_ranked_21 (by decide) ?_
  obtain ⟨a6, rfl⟩ := aI_s hf
  replace hf := aI_e hf
  obtain ⟨w7, N8, f9, hh10, hi11, i12, ei12, hf⟩ := hf
  refine v_iald dX2_ranked_22 hh10 hi11 ?_
  rw [← ei12]
  refine v_icmp_ge 103 dX2_ranked_23 (by decide) (fun c13 => ?_) (fun c13 => ?_)
  · replace hf := hf.1 c13
    refine v_sipush (v := -1011) dX2_ranked_103 (by decide) ?_
    exact v_iret dX2_ranked_106 rfl ⟨_, rfl, hf⟩
  · replace hf := hf.2 c13
    refine v_iconst (v := 0) dX2_ranked_26 (by decide) ?_
    refine v_istore_n (i := 3) (lv' := [(0, .ref a0), (1, .int i_1), (2, .int i_2), (3, .int (0 : Int32))]) dX2_ranked_27 rfl (Nat.le_of_ble_eq_true rfl) rfl rfl ?_
    refine v_iconst (v := 0) dX2_ranked_28 (by decide) ?_
    refine v_istore (i := 4) (lv' := [(0, .ref a0), (1, .int i_1), (2, .int i_2), (3, .int (0 : Int32)), (4, .int (0 : Int32))]) dX2_ranked_29 (Nat.le_of_ble_eq_true rfl) rfl rfl ?_
    exact V.weak hf (by omega) (by omega)
def g_X2_ranked_31 (G : Gt) (E : Ev) (h : Hp) (k n : Nat) (a0 : Nat) (i_1 : Int32) (i_2 : Int32) (i_3 : Int32) (i_4 : Int32) (K : Int32 → Hp → Prop) : Prop :=
gR h (some a0) 2 0 fun r1 =>
aI h r1 0 (0 : Int32) fun i12 =>
((i12 ≤ i_4 → ((¬ (i_3 = i_1) → V G E Y_X2_ranked cX2_ranked 5 (QM G E (kI K) xN) h k n 16 [(0, .ref a0), (1, .int i_1), (2, .int (i_2 + (1 : Int32)))] []) ∧
(i_3 = i_1 → K i_2 h))) ∧
(¬ (i12 ≤ i_4) → rv h (some a0) 2 (f_X2_fewest G h (some a0) i_4 (fun i19 h18 =>
rv h18 (some a0) 2 (f_X2_fewest G h18 (some a0) i_2 (fun i24 h23 =>
((i19 < i24 → V G E Y_X2_ranked cX2_ranked 5 (QM G E (kI K) xN) h23 k n 31 [(0, .ref a0), (1, .int i_1), (2, .int i_2), (3, .int (i_3 + (1 : Int32))), (4, .int (i_4 + (1 : Int32)))] []) ∧
(¬ (i19 < i24) → rv h23 (some a0) 2 (f_X2_fewest G h23 (some a0) i_4 (fun i30 h29 =>
rv h29 (some a0) 2 (f_X2_fewest G h29 (some a0) i_2 (fun i35 h34 =>
((¬ (i30 = i35) → V G E Y_X2_ranked cX2_ranked 5 (QM G E (kI K) xN) h34 k n 31 [(0, .ref a0), (1, .int i_1), (2, .int i_2), (3, .int (i_3 + (0 : Int32))), (4, .int (i_4 + (1 : Int32)))] []) ∧
(i30 = i35 → ((i_2 ≤ i_4 → V G E Y_X2_ranked cX2_ranked 5 (QM G E (kI K) xN) h34 k n 31 [(0, .ref a0), (1, .int i_1), (2, .int i_2), (3, .int (i_3 + (0 : Int32))), (4, .int (i_4 + (1 : Int32)))] []) ∧
(¬ (i_2 ≤ i_4) → V G E Y_X2_ranked cX2_ranked 5 (QM G E (kI K) xN) h34 k n 31 [(0, .ref a0), (1, .int i_1), (2, .int i_2), (3, .int (i_3 + (1 : Int32))), (4, .int (i_4 + (1 : Int32)))] []))))))))))))))))
theorem s_X2_ranked_31 {G : Gt} {E : Ev} {h : Hp} {k0 n0 : Nat} {a0 : Nat} {i_1 : Int32} {i_2 : Int32} {i_3 : Int32} {i_4 : Int32} {K : Int32 → Hp → Prop} (hG : Base G) (hA : 0 ≤ k0) (hB : 0 ≤ n0) (hf : g_X2_ranked_31 G E h (k0 - 0) (n0 - 0) a0 i_1 i_2 i_3 i_4 K) : V G E Y_X2_ranked cX2_ranked 5 (QM G E (kI K) xN) h k0 n0 31 [(0, .ref a0), (1, .int i_1), (2, .int i_2), (3, .int i_3), (4, .int i_4)] [] := by
  obtain ⟨k, hk9⟩ : ∃ z, z = k0 - 0 := ⟨_, rfl⟩
  obtain ⟨n, hn9⟩ : ∃ z, z = n0 - 0 := ⟨_, rfl⟩
  rw [← hk9, ← hn9] at hf
  refine V.weak (k' := k + 0) (n' := n + 0) ?_ (by omega) (by omega)
  unfold g_X2_ranked_31 at hf
  refine v_iload (i := 4) dX2_ranked_31 rfl ?_
  refine v_aload_n (i := 0) dX2_ranked_33 rfl rfl ?_
  replace hf := gR_e hf
  obtain ⟨w2, fs3, r1, hh4, hk5, hf⟩ := hf
  refine v_getf (T := TX2) (ci := 2) 0 dX2_ranked_34 q2488 rfl in_X2 (Nat.le_of_ble_eq_true rfl) (Or.inl rfl) hh4 hk5 ?_
  refine v_iconst (v := 0) dX2_ranked_37 (by decide) ?_
  obtain ⟨a6, rfl⟩ := aI_s hf
  replace hf := aI_e hf
  obtain ⟨w7, N8, f9, hh10, hi11, i12, ei12, hf⟩ := hf
  refine v_iald dX2_ranked_38 hh10 hi11 ?_
  rw [← ei12]
  refine v_icmp_ge 90 dX2_ranked_39 (by decide) (fun c13 => ?_) (fun c13 => ?_)
  · replace hf := hf.1 c13
    refine v_iload_n (i := 3) dX2_ranked_90 rfl rfl ?_
    refine v_iload_n (i := 1) dX2_ranked_91 rfl rfl ?_
    refine v_icmp_ne 97 dX2_ranked_92 (by decide) (fun c14 => ?_) (fun c14 => ?_)
    · replace hf := hf.1 c14
      refine v_iinc (i := 2) (v := i_2 + (1 : Int32)) (lv' := [(0, .ref a0), (1, .int i_1), (2, .int (i_2 + (1 : Int32))), (3, .int i_3), (4, .int i_4)]) dX2_ranked_97 rfl rfl (Nat.le_of_ble_eq_true rfl) rfl rfl ?_
      refine v_goto 16 dX2_ranked_100 (by decide) ?_
      refine V.lp (lv' := [(0, .ref a0), (1, .int i_1), (2, .int (i_2 + (1 : Int32)))]) [0, 1, 2] rfl ?_
      exact V.weak hf (by omega) (by omega)
    · replace hf := hf.2 c14
      refine v_iload_n (i := 2) dX2_ranked_95 rfl rfl ?_
      exact v_iret dX2_ranked_96 rfl ⟨_, rfl, hf⟩
  · replace hf := hf.2 c13
    refine v_iload_n (i := 3) dX2_ranked_42 rfl rfl ?_
    refine v_aload_n (i := 0) dX2_ranked_43 rfl rfl ?_
    refine v_iload (i := 4) dX2_ranked_44 rfl ?_
    replace hf := rv_e hf
    obtain ⟨w15, fs16, hh17, hf⟩ := hf
    refine V.addK0 ?_
    refine V.addN0 ?_
    refine v_callV (mc := 0) (ms := 0) 1 dX2_ranked_46 (m_X2_fewest hG hf) rfl hh17 rfl (lw_V q2666 q2668 qs64 q98 q2669) rfl (by decide +kernel) (by decide) rfl (cat_len (Nat.le_of_ble_eq_true rfl)) (kk_I fun i19 h18 hg => ?_) (fun _ _ _ hx => hx.elim)
    replace hf := hg
    clear hg
    refine v_aload_n (i := 0) dX2_ranked_49 rfl rfl ?_
    refine v_iload_n (i := 2) dX2_ranked_50 rfl rfl ?_
    replace hf := rv_e hf
    obtain ⟨w20, fs21, hh22, hf⟩ := hf
    refine V.addK0 ?_
    refine V.addN0 ?_
    refine v_callV (mc := 0) (ms := 0) 1 dX2_ranked_51 (m_X2_fewest hG hf) rfl hh22 rfl (lw_V q2666 q2668 qs64 q98 q2669) rfl (by decide +kernel) (by decide) rfl (cat_len (Nat.le_of_ble_eq_true rfl)) (kk_I fun i24 h23 hg => ?_) (fun _ _ _ hx => hx.elim)
    replace hf := hg
    clear hg
    refine v_icmp_lt 77 dX2_ranked_54 (by decide) (fun c25 => ?_) (fun c25 => ?_)
    · replace hf := hf.1 c25
      refine v_iconst (v := 1) dX2_ranked_77 (by decide) ?_
      refine v_goto 82 dX2_ranked_78 (by decide) ?_
      refine v_iadd dX2_ranked_82 ?_
      refine v_istore_n (i := 3) (lv' := [(0, .ref a0), (1, .int i_1), (2, .int i_2), (3, .int (i_3 + (1 : Int32))), (4, .int i_4)]) dX2_ranked_83 rfl (Nat.le_of_ble_eq_true rfl) rfl rfl ?_
      refine v_iinc (i := 4) (v := i_4 + (1 : Int32)) (lv' := [(0, .ref a0), (1, .int i_1), (2, .int i_2), (3, .int (i_3 + (1 : Int32))), (4, .int (i_4 + (1 : Int32)))]) dX2_ranked_84 rfl rfl (Nat.le_of_ble_eq_true rfl) rfl rfl ?_
      refine v_goto 31 dX2_ranked_87 (by decide) ?_
      exact V.weak hf (by omega) (by omega)
    · replace hf := hf.2 c25
      refine v_aload_n (i := 0) dX2_ranked_57 rfl rfl ?_
      refine v_iload (i := 4) dX2_ranked_58 rfl ?_
      replace hf := rv_e hf
      obtain ⟨w26, fs27, hh28, hf⟩ := hf
      refine V.addK0 ?_
      refine V.addN0 ?_
      refine v_callV (mc := 0) (ms := 0) 1 dX2_ranked_60 (m_X2_fewest hG hf) rfl hh28 rfl (lw_V q2666 q2668 qs64 q98 q2669) rfl (by decide +kernel) (by decide) rfl (cat_len (Nat.le_of_ble_eq_true rfl)) (kk_I fun i30 h29 hg => ?_) (fun _ _ _ hx => hx.elim)
      replace hf := hg
      clear hg
      refine v_aload_n (i := 0) dX2_ranked_63 rfl rfl ?_
      refine v_iload_n (i := 2) dX2_ranked_64 rfl rfl ?_
      replace hf := rv_e hf
      obtain ⟨w31, fs32, hh33, hf⟩ := hf
      refine V.addK0 ?_
      refine V.addN0 ?_
      refine v_callV (mc := 0) (ms := 0) 1 dX2_ranked_65 (m_X2_fewest hG hf) rfl hh33 rfl (lw_V q2666 q2668 qs64 q98 q2669) rfl (by decide +kernel) (by decide) rfl (cat_len (Nat.le_of_ble_eq_true rfl)) (kk_I fun i35 h34 hg => ?_) (fun _ _ _ hx => hx.elim)
      replace hf := hg
      clear hg
      refine v_icmp_ne 81 dX2_ranked_68 (by decide) (fun c36 => ?_) (fun c36 => ?_)
      · replace hf := hf.1 c36
        refine v_iconst (v := 0) dX2_ranked_81 (by decide) ?_
        refine v_iadd dX2_ranked_82 ?_
        refine v_istore_n (i := 3) (lv' := [(0, .ref a0), (1, .int i_1), (2, .int i_2), (3, .int (i_3 + (0 : Int32))), (4, .int i_4)]) dX2_ranked_83 rfl (Nat.le_of_ble_eq_true rfl) rfl rfl ?_
        refine v_iinc (i := 4) (v := i_4 + (1 : Int32)) (lv' := [(0, .ref a0), (1, .int i_1), (2, .int i_2), (3, .int (i_3 + (0 : Int32))), (4, .int (i_4 + (1 : Int32)))]) dX2_ranked_84 rfl rfl (Nat.le_of_ble_eq_true rfl) rfl rfl ?_
        refine v_goto 31 dX2_ranked_87 (by decide) ?_
        exact V.weak hf (by omega) (by omega)
      · replace hf := hf.2 c36
        refine v_iload (i := 4) dX2_ranked_71 rfl ?_
        refine v_iload_n (i := 2) dX2_ranked_73 rfl rfl ?_
        refine v_icmp_ge 81 dX2_ranked_74 (by decide) (fun c37 => ?_) (fun c37 => ?_)
        · replace hf := hf.1 c37
          refine v_iconst (v := 0) dX2_ranked_81 (by decide) ?_
          refine v_iadd dX2_ranked_82 ?_
          refine v_istore_n (i := 3) (lv' := [(0, .ref a0), (1, .int i_1), (2, .int i_2), (3, .int (i_3 + (0 : Int32))), (4, .int i_4)]) dX2_ranked_83 rfl (Nat.le_of_ble_eq_true rfl) rfl rfl ?_
          refine v_iinc (i := 4) (v := i_4 + (1 : Int32)) (lv' := [(0, .ref a0), (1, .int i_1), (2, .int i_2), (3, .int (i_3 + (0 : Int32))), (4, .int (i_4 + (1 : Int32)))]) dX2_ranked_84 rfl rfl (Nat.le_of_ble_eq_true rfl) rfl rfl ?_
          refine v_goto 31 dX2_ranked_87 (by decide) ?_
          exact V.weak hf (by omega) (by omega)
        · replace hf := hf.2 c37
          refine v_iconst (v := 1) dX2_ranked_77 (by decide) ?_
          refine v_goto 82 dX2_ranked_78 (by decide) ?_
          refine v_iadd dX2_ranked_82 ?_
          refine v_istore_n (i := 3) (lv' := [(0, .ref a0), (1, .int i_1), (2, .int i_2), (3, .int (i_3 + (1 : Int32))), (4, .int i_4)]) dX2_ranked_83 rfl (Nat.le_of_ble_eq_true rfl) rfl rfl ?_
          refine v_iinc (i := 4) (v := i_4 + (1 : Int32)) (lv' := [(0, .ref a0), (1, .int i_1), (2, .int i_2), (3, .int (i_3 + (1 : Int32))), (4, .int (i_4 + (1 : Int32)))]) dX2_ranked_84 rfl rfl (Nat.le_of_ble_eq_true rfl) rfl rfl ?_
          refine v_goto 31 dX2_ranked_87 (by decide) ?_
          exact V.weak hf (by omega) (by omega)
theorem b_X2_ranked {G : Gt} {h : Hp} {mc ms : Nat} {a0 : Nat} {i_1 : Int32} {K : Int32 → Hp → Prop} (hG : Base G) (hf : ∀ E : Ev, V G E Y_X2_ranked cX2_ranked 5 (QM G E (kI K) xN) h mc ms 0 [(0, .ref a0), (1, .int i_1)] []) : MM G Y_X2_ranked cX2_ranked 5 mc ms [.ref a0, .int i_1] h (kI K) xN := mm_of hG (by decide +kernel) rfl (ac_c rfl (ac_c rfl ac_nil)) (Nat.le_of_ble_eq_true rfl) (fun E _ _ => hf E)
abbrev Y_X2_append : Yt := (yX2_append, some (.int), 2, 62, [])
def f_X2_append (G : Gt) (h : Hp) (t_0 : Option Nat) (i_1 : Int32) (K : Int32 → Hp → Prop) : Prop :=
f_X2_in G h i_1 (32 : Int32) (126 : Int32) (fun i2 h1 =>
((¬ (i2 = 0) → gI h1 t_0 2 10 fun i4 =>
((¬ (i4 = (60 : Int32)) → gR h1 t_0 2 9 fun r10 =>
gI h1 t_0 2 10 fun i15 =>
sI h1 r10 i15 i_1 fun h25 =>
gI h25 t_0 2 10 fun i26 =>
pF h25 t_0 2 10 (.int (i26 + (1 : Int32))) fun h33 =>
gI h33 t_0 2 10 fun i34 =>
K i34 h33) ∧
(i4 = (60 : Int32) → K (-1013 : Int32) h1))) ∧
(i2 = 0 → K (-1012 : Int32) h1)))
theorem m_X2_append {G : Gt} {h : Hp} {a0 : Nat} {i_1 : Int32} {K : Int32 → Hp → Prop} (hG : Base G) (hf : f_X2_append G h (some a0) i_1 K) : MM G Y_X2_append cX2_append 2 0 0 [.ref a0, .int i_1] h (kI K) xN := by
  refine mm_of hG (by decide +kernel) rfl (ac_c rfl (ac_c rfl ac_nil)) (Nat.le_of_ble_eq_true rfl) (fun E _ _ => ?_)
  show V G E Y_X2_append cX2_append 2 (QM G E (kI K) xN) h 0 0 0 [(0, .ref a0), (1, .int i_1)] []
  unfold f_X2_append at hf
  refine v_iload_n (i := 1) dX2_append_0 rfl rfl ?_
  refine v_bipush (v := 32) dX2_append_1 (by decide) ?_
  refine v_bipush (v := 126) dX2_append_3 (by decide) ?_
  refine V.addK0 ?_
  refine V.addN0 ?_
  refine v_callS (mc := 0) (ms := 0) 3 dX2_append_5 (m_X2_in hG hf) rfl (lw_S q2547 q2548 q98 q2549) rfl (by decide +kernel) (by decide) rfl (cat_len (Nat.le_of_ble_eq_true rfl)) (kk_I fun i2 h1 hg => ?_) (fun _ _ _ hx => hx.elim)
  replace hf := hg
  clear hg
  refine v_if_ne 15 dX2_append_8 (by decide) (fun c3 => ?_) (fun c3 => ?_)
  · replace hf := hf.1 c3
    refine v_qload_n (r := (some a0)) (i := 0) dX2_append_15 rfl rfl ?_
    replace hf := gI_e hf
    obtain ⟨w5, fs6, i4, hh7, hk8, hf⟩ := hf
    refine v_getf (T := TX2) (ci := 2) 10 dX2_append_16 q2498 rfl in_X2 (Nat.le_of_ble_eq_true rfl) (Or.inl rfl) hh7 hk8 ?_
    refine v_bipush (v := 60) dX2_append_19 (by decide) ?_
    refine v_icmp_ne 28 dX2_append_21 (by decide) (fun c9 => ?_) (fun c9 => ?_)
    · replace hf := hf.1 c9
      refine v_qload_n (r := (some a0)) (i := 0) dX2_append_28 rfl rfl ?_
      replace hf := gR_e hf
      obtain ⟨w11, fs12, r10, hh13, hk14, hf⟩ := hf
      refine v_getf (T := TX2) (ci := 2) 9 dX2_append_29 q2497 rfl in_X2 (Nat.le_of_ble_eq_true rfl) (Or.inl rfl) hh13 hk14 ?_
      refine v_qload_n (r := (some a0)) (i := 0) dX2_append_32 rfl rfl ?_
      replace hf := gI_e hf
      obtain ⟨w16, fs17, i15, hh18, hk19, hf⟩ := hf
      refine v_getf (T := TX2) (ci := 2) 10 dX2_append_33 q2498 rfl in_X2 (Nat.le_of_ble_eq_true rfl) (Or.inl rfl) hh18 hk19 ?_
      refine v_iload_n (i := 1) dX2_append_36 rfl rfl ?_
      obtain ⟨a20, rfl⟩ := sI_s hf
      replace hf := sI_e hf
      obtain ⟨N21, f22, hh23, hi24, hf⟩ := hf
      refine v_iast dX2_append_37 hh23 hi24 ?_
      obtain ⟨h25, eh25⟩ : ∃ z, z = hs h1 a20 (true, .inl (0, N21, .inl (upd f22 (i15).toNatClampNeg (i_1)))) := ⟨_, rfl⟩
      try rw [← eh25] at hf
      rw [← eh25]
      refine v_qload_n (r := (some a0)) (i := 0) dX2_append_38 rfl rfl ?_
      refine v_dup dX2_append_39 (rf_cat _) ?_
      replace hf := gI_e hf
      obtain ⟨w27, fs28, i26, hh29, hk30, hf⟩ := hf
      refine v_getf (T := TX2) (ci := 2) 10 dX2_append_40 q2498 rfl in_X2 (Nat.le_of_ble_eq_true rfl) (Or.inl rfl) hh29 hk30 ?_
      refine v_iconst (v := 1) dX2_append_43 (by decide) ?_
      refine v_iadd dX2_append_44 ?_
      replace hf := pF_e hf
      obtain ⟨fs31, hh32, hf⟩ := hf
      refine v_putf (v := .int (i26 + (1 : Int32))) (T := TX2) (ci := 2) (ty := .int) 10 dX2_append_45 q2498 rfl in_X2 tyX2 tyX2_ok nmX2 (Nat.le_of_ble_eq_true rfl) (Or.inl rfl) rfl (by decide +kernel) rfl rfl hh32 ?_
      obtain ⟨h33, eh33⟩ : ∃ z, z = hs h25 a0 (true, .inr (2, fs31.set 10 (.int (i26 + (1 : Int32))))) := ⟨_, rfl⟩
      try rw [← eh33] at hf
      rw [← eh33]
      refine v_qload_n (r := (some a0)) (i := 0) dX2_append_48 rfl rfl ?_
      replace hf := gI_e hf
      obtain ⟨w35, fs36, i34, hh37, hk38, hf⟩ := hf
      refine v_getf (T := TX2) (ci := 2) 10 dX2_append_49 q2498 rfl in_X2 (Nat.le_of_ble_eq_true rfl) (Or.inl rfl) hh37 hk38 ?_
      exact v_iret dX2_append_52 rfl ⟨_, rfl, hf⟩
    · replace hf := hf.2 c9
      refine v_sipush (v := -1013) dX2_append_24 (by decide) ?_
      exact v_iret dX2_append_27 rfl ⟨_, rfl, hf⟩
  · replace hf := hf.2 c3
    refine v_sipush (v := -1012) dX2_append_11 (by decide) ?_
    exact v_iret dX2_append_14 rfl ⟨_, rfl, hf⟩
abbrev Y_X2_hasOrder : Yt := (yX2_hasOrder, some (.boolean), 1, 40, [])
def f_X2_hasOrder (G : Gt) (h : Hp) (t_0 : Option Nat) (i_1 : Int32) (K : Int32 → Hp → Prop) : Prop :=
gR h t_0 2 16 fun r1 =>
gI h t_0 2 17 fun i6 =>
sI h r1 ((6 : Int32) * i6) i_1 fun h16 =>
K (1 : Int32) h16
theorem m_X2_hasOrder {G : Gt} {h : Hp} {a0 : Nat} {i_1 : Int32} {K : Int32 → Hp → Prop} (hG : Base G) (hf : f_X2_hasOrder G h (some a0) i_1 K) : MM G Y_X2_hasOrder cX2_hasOrder 2 0 0 [.ref a0, .int i_1] h (kI K) xN := by
  refine mm_of hG (by decide +kernel) rfl (ac_c rfl (ac_c rfl ac_nil)) (Nat.le_of_ble_eq_true rfl) (fun E _ _ => ?_)
  show V G E Y_X2_hasOrder cX2_hasOrder 2 (QM G E (kI K) xN) h 0 0 0 [(0, .ref a0), (1, .int i_1)] []
  unfold f_X2_hasOrder at hf
  refine v_qload_n (r := (some a0)) (i := 0) dX2_hasOrder_0 rfl rfl ?_
  replace hf := gR_e hf
  obtain ⟨w2, fs3, r1, hh4, hk5, hf⟩ := hf
  refine v_getf (T := TX2) (ci := 2) 16 dX2_hasOrder_1 q2504 rfl in_X2 (Nat.le_of_ble_eq_true rfl) (Or.inl rfl) hh4 hk5 ?_
  refine v_bipush (v := 6) dX2_hasOrder_4 (by decide) ?_
  refine v_qload_n (r := (some a0)) (i := 0) dX2_hasOrder_6 rfl rfl ?_
  replace hf := gI_e hf
  obtain ⟨w7, fs8, i6, hh9, hk10, hf⟩ := hf
  refine v_getf (T := TX2) (ci := 2) 17 dX2_hasOrder_7 q2505 rfl in_X2 (Nat.le_of_ble_eq_true rfl) (Or.inl rfl) hh9 hk10 ?_
  refine v_imul dX2_hasOrder_10 ?_
  refine v_iload_n (i := 1) dX2_hasOrder_11 rfl rfl ?_
  obtain ⟨a11, rfl⟩ := sI_s hf
  replace hf := sI_e hf
  obtain ⟨N12, f13, hh14, hi15, hf⟩ := hf
  refine v_iast dX2_hasOrder_12 hh14 hi15 ?_
  obtain ⟨h16, eh16⟩ : ∃ z, z = hs h a11 (true, .inl (0, N12, .inl (upd f13 ((6 : Int32) * i6).toNatClampNeg (i_1)))) := ⟨_, rfl⟩
  try rw [← eh16] at hf
  rw [← eh16]
  refine v_iconst (v := 1) dX2_hasOrder_13 (by decide) ?_
  exact v_zret dX2_hasOrder_14 rfl (by decide) ⟨_, rfl, hf⟩
abbrev Y_X2_figures : Yt := (yX2_figures, some (.boolean), 2, 62, [])
def g_X2_figures_0 (G : Gt) (E : Ev) (h : Hp) (k n : Nat) (a0 : Nat) (i_1 : Int32) (i_2 : Int32) (K : Int32 → Hp → Prop) : Prop :=
rv h (some a0) 2 (f_X2_here G h (some a0) (fun i5 h4 =>
f_X2_in G h4 i5 (48 : Int32) (57 : Int32) (fun i7 h6 =>
((¬ (i7 = 0) → gR h6 (some a0) 2 16 fun r9 =>
sI h6 r9 i_1 (0 : Int32) fun h19 =>
V G E Y_X2_figures cX2_figures 4 (QM G E (kI K) xN) h19 k n 25 [(0, .ref a0), (1, .int i_1), (2, .int i_2), (3, .int (0 : Int32))] []) ∧
(i7 = 0 → K (0 : Int32) h6)))))
theorem s_X2_figures_0 {G : Gt} {E : Ev} {h : Hp} {k0 n0 : Nat} {a0 : Nat} {i_1 : Int32} {i_2 : Int32} {K : Int32 → Hp → Prop} (hG : Base G) (hA : 0 ≤ k0) (hB : 0 ≤ n0) (hf : g_X2_figures_0 G E h (k0 - 0) (n0 - 0) a0 i_1 i_2 K) : V G E Y_X2_figures cX2_figures 4 (QM G E (kI K) xN) h k0 n0 0 [(0, .ref a0), (1, .int i_1), (2, .int i_2)] [] := by
  obtain ⟨k, hk9⟩ : ∃ z, z = k0 - 0 := ⟨_, rfl⟩
  obtain ⟨n, hn9⟩ : ∃ z, z = n0 - 0 := ⟨_, rfl⟩
  rw [← hk9, ← hn9] at hf
  refine V.weak (k' := k + 0) (n' := n + 0) ?_ (by omega) (by omega)
  unfold g_X2_figures_0 at hf
  refine v_aload_n (i := 0) dX2_figures_0 rfl rfl ?_
  replace hf := rv_e hf
  obtain ⟨w1, fs2, hh3, hf⟩ := hf
  refine V.addK0 ?_
  refine V.addN0 ?_
  refine v_callV (mc := 0) (ms := 0) 0 dX2_figures_1 (m_X2_here hG hf) rfl hh3 rfl (lw_V q2743 q2745 qs73 q98 q2746) rfl (by decide +kernel) (by decide) rfl (cat_len (Nat.le_of_ble_eq_true rfl)) (kk_I fun i5 h4 hg => ?_) (fun _ _ _ hx => hx.elim)
  replace hf := hg
  clear hg
  refine v_bipush (v := 48) dX2_figures_4 (by decide) ?_
  refine v_bipush (v := 57) dX2_figures_6 (by decide) ?_
  refine V.addK0 ?_
  refine V.addN0 ?_
  refine v_callS (mc := 0) (ms := 0) 3 dX2_figures_8 (m_X2_in hG hf) rfl (lw_S q2547 q2548 q98 q2549) rfl (by decide +kernel) (by decide) rfl (cat_len (Nat.le_of_ble_eq_true rfl)) (kk_I fun i7 h6 hg => ?_) (fun _ _ _ hx => hx.elim)
  replace hf := hg
  clear hg
  refine v_if_ne 16 dX2_figures_11 (by decide) (fun c8 => ?_) (fun c8 => ?_)
  · replace hf := hf.1 c8
    refine v_aload_n (i := 0) dX2_figures_16 rfl rfl ?_
    replace hf := gR_e hf
    obtain ⟨w10, fs11, r9, hh12, hk13, hf⟩ := hf
    refine v_getf (T := TX2) (ci := 2) 16 dX2_figures_17 q2504 rfl in_X2 (Nat.le_of_ble_eq_true rfl) (Or.inl rfl) hh12 hk13 ?_
    refine v_iload_n (i := 1) dX2_figures_20 rfl rfl ?_
    refine v_iconst (v := 0) dX2_figures_21 (by decide) ?_
    obtain ⟨a14, rfl⟩ := sI_s hf
    replace hf := sI_e hf
    obtain ⟨N15, f16, hh17, hi18, hf⟩ := hf
    refine v_iast dX2_figures_22 hh17 hi18 ?_
    obtain ⟨h19, eh19⟩ : ∃ z, z = hs h6 a14 (true, .inl (0, N15, .inl (upd f16 (i_1).toNatClampNeg ((0 : Int32))))) := ⟨_, rfl⟩
    try rw [← eh19] at hf
    rw [← eh19]
    refine v_iconst (v := 0) dX2_figures_23 (by decide) ?_
    refine v_istore_n (i := 3) (lv' := [(0, .ref a0), (1, .int i_1), (2, .int i_2), (3, .int (0 : Int32))]) dX2_figures_24 rfl (Nat.le_of_ble_eq_true rfl) rfl rfl ?_
    exact V.weak hf (by omega) (by omega)
  · replace hf := hf.2 c8
    refine v_iconst (v := 0) dX2_figures_14 (by decide) ?_
    exact v_zret dX2_figures_15 rfl (by decide) ⟨_, rfl, hf⟩
def g_X2_figures_25 (G : Gt) (E : Ev) (h : Hp) (k n : Nat) (a0 : Nat) (i_1 : Int32) (i_2 : Int32) (i_3 : Int32) (K : Int32 → Hp → Prop) : Prop :=
((i_2 ≤ i_3 → K (1 : Int32) h) ∧
(¬ (i_2 ≤ i_3) → rv h (some a0) 2 (f_X2_here G h (some a0) (fun i6 h5 =>
f_X2_in G h5 i6 (48 : Int32) (57 : Int32) (fun i8 h7 =>
((i8 = 0 → K (1 : Int32) h7) ∧
(¬ (i8 = 0) → gR h7 (some a0) 2 16 fun r10 =>
gR h7 (some a0) 2 16 fun r15 =>
aI h7 r15 0 i_1 fun i26 =>
rv h7 (some a0) 2 (f_X2_here G h7 (some a0) (fun i31 h30 =>
sI h30 r10 i_1 ((((10 : Int32) * i26) + i31) - (48 : Int32)) fun h37 =>
gI h37 (some a0) 2 15 fun i38 =>
pF h37 (some a0) 2 15 (.int (i38 + (1 : Int32))) fun h45 =>
V G E Y_X2_figures cX2_figures 4 (QM G E (kI K) xN) h45 k n 25 [(0, .ref a0), (1, .int i_1), (2, .int i_2), (3, .int (i_3 + (1 : Int32)))] [])))))))))
theorem s_X2_figures_25 {G : Gt} {E : Ev} {h : Hp} {k0 n0 : Nat} {a0 : Nat} {i_1 : Int32} {i_2 : Int32} {i_3 : Int32} {K : Int32 → Hp → Prop} (hG : Base G) (hA : 0 ≤ k0) (hB : 0 ≤ n0) (hf : g_X2_figures_25 G E h (k0 - 0) (n0 - 0) a0 i_1 i_2 i_3 K) : V G E Y_X2_figures cX2_figures 4 (QM G E (kI K) xN) h k0 n0 25 [(0, .ref a0), (1, .int i_1), (2, .int i_2), (3, .int i_3)] [] := by
  obtain ⟨k, hk9⟩ : ∃ z, z = k0 - 0 := ⟨_, rfl⟩
  obtain ⟨n, hn9⟩ : ∃ z, z = n0 - 0 := ⟨_, rfl⟩
  rw [← hk9, ← hn9] at hf
  refine V.weak (k' := k + 0) (n' := n + 0) ?_ (by omega) (by omega)
  unfold g_X2_figures_25 at hf
  refine v_iload_n (i := 3) dX2_figures_25 rfl rfl ?_
  refine v_iload_n (i := 2) dX2_figures_26 rfl rfl ?_
  refine v_icmp_ge 83 dX2_figures_27 (by decide) (fun c1 => ?_) (fun c1 => ?_)
  · replace hf := hf.1 c1
    refine v_iconst (v := 1) dX2_figures_83 (by decide) ?_
    exact v_zret dX2_figures_84 rfl (by decide) ⟨_, rfl, hf⟩
  · replace hf := hf.2 c1
    refine v_aload_n (i := 0) dX2_figures_30 rfl rfl ?_
    replace hf := rv_e hf
    obtain ⟨w2, fs3, hh4, hf⟩ := hf
    refine V.addK0 ?_
    refine V.addN0 ?_
    refine v_callV (mc := 0) (ms := 0) 0 dX2_figures_31 (m_X2_here hG hf) rfl hh4 rfl (lw_V q2743 q2745 qs73 q98 q2746) rfl (by decide +kernel) (by decide) rfl (cat_len (Nat.le_of_ble_eq_true rfl)) (kk_I fun i6 h5 hg => ?_) (fun _ _ _ hx => hx.elim)
    replace hf := hg
    clear hg
    refine v_bipush (v := 48) dX2_figures_34 (by decide) ?_
    refine v_bipush (v := 57) dX2_figures_36 (by decide) ?_
    refine V.addK0 ?_
    refine V.addN0 ?_
    refine v_callS (mc := 0) (ms := 0) 3 dX2_figures_38 (m_X2_in hG hf) rfl (lw_S q2547 q2548 q98 q2549) rfl (by decide +kernel) (by decide) rfl (cat_len (Nat.le_of_ble_eq_true rfl)) (kk_I fun i8 h7 hg => ?_) (fun _ _ _ hx => hx.elim)
    replace hf := hg
    clear hg
    refine v_if_eq 83 dX2_figures_41 (by decide) (fun c9 => ?_) (fun c9 => ?_)
    · replace hf := hf.1 c9
      refine v_iconst (v := 1) dX2_figures_83 (by decide) ?_
      exact v_zret dX2_figures_84 rfl (by decide) ⟨_, rfl, hf⟩
    · replace hf := hf.2 c9
      refine v_aload_n (i := 0) dX2_figures_44 rfl rfl ?_
      replace hf := gR_e hf
      obtain ⟨w11, fs12, r10, hh13, hk14, hf⟩ := hf
      refine v_getf (T := TX2) (ci := 2) 16 dX2_figures_45 q2504 rfl in_X2 (Nat.le_of_ble_eq_true rfl) (Or.inl rfl) hh13 hk14 ?_
      refine v_iload_n (i := 1) dX2_figures_48 rfl rfl ?_
      refine v_bipush (v := 10) dX2_figures_49 (by decide) ?_
      refine v_aload_n (i := 0) dX2_figures_51 rfl rfl ?_
      replace hf := gR_e hf
      obtain ⟨w16, fs17, r15, hh18, hk19, hf⟩ := hf
      refine v_getf (T := TX2) (ci := 2) 16 dX2_figures_52 q2504 rfl in_X2 (Nat.le_of_ble_eq_true rfl) (Or.inl rfl) hh18 hk19 ?_
      refine v_iload_n (i := 1) dX2_figures_55 rfl rfl ?_
      obtain ⟨a20, rfl⟩ := aI_s hf
      replace hf := aI_e hf
      obtain ⟨w21, N22, f23, hh24, hi25, i26, ei26, hf⟩ := hf
      refine v_iald dX2_figures_56 hh24 hi25 ?_
      rw [← ei26]
      refine v_imul dX2_figures_57 ?_
      refine v_aload_n (i := 0) dX2_figures_58 rfl rfl ?_
      replace hf := rv_e hf
      obtain ⟨w27, fs28, hh29, hf⟩ := hf
      refine V.addK0 ?_
      refine V.addN0 ?_
      refine v_callV (mc := 0) (ms := 0) 0 dX2_figures_59 (m_X2_here hG hf) rfl hh29 rfl (lw_V q2743 q2745 qs73 q98 q2746) rfl (by decide +kernel) (by decide) rfl (cat_len (Nat.le_of_ble_eq_true rfl)) (kk_I fun i31 h30 hg => ?_) (fun _ _ _ hx => hx.elim)
      replace hf := hg
      clear hg
      refine v_iadd dX2_figures_62 ?_
      refine v_bipush (v := 48) dX2_figures_63 (by decide) ?_
      refine v_isub dX2_figures_65 ?_
      obtain ⟨a32, rfl⟩ := sI_s hf
      replace hf := sI_e hf
      obtain ⟨N33, f34, hh35, hi36, hf⟩ := hf
      refine v_iast dX2_figures_66 hh35 hi36 ?_
      obtain ⟨h37, eh37⟩ : ∃ z, z = hs h30 a32 (true, .inl (0, N33, .inl (upd f34 (i_1).toNatClampNeg ((((10 : Int32) * i26) + i31) - (48 : Int32))))) := ⟨_, rfl⟩
      try rw [← eh37] at hf
      rw [← eh37]
      refine v_aload_n (i := 0) dX2_figures_67 rfl rfl ?_
      refine v_dup dX2_figures_68 rfl ?_
      replace hf := gI_e hf
      obtain ⟨w39, fs40, i38, hh41, hk42, hf⟩ := hf
      refine v_getf (T := TX2) (ci := 2) 15 dX2_figures_69 q2503 rfl in_X2 (Nat.le_of_ble_eq_true rfl) (Or.inl rfl) hh41 hk42 ?_
      refine v_iconst (v := 1) dX2_figures_72 (by decide) ?_
      refine v_iadd dX2_figures_73 ?_
      replace hf := pF_e hf
      obtain ⟨fs43, hh44, hf⟩ := hf
      refine v_putf (v := .int (i38 + (1 : Int32))) (T := TX2) (ci := 2) (ty := .int) 15 dX2_figures_74 q2503 rfl in_X2 tyX2 tyX2_ok nmX2 (Nat.le_of_ble_eq_true rfl) (Or.inl rfl) rfl (by decide +kernel) rfl rfl hh44 ?_
      obtain ⟨h45, eh45⟩ : ∃ z, z = hs h37 a0 (true, .inr (2, fs43.set 15 (.int (i38 + (1 : Int32))))) := ⟨_, rfl⟩
      try rw [← eh45] at hf
      rw [← eh45]
      refine v_iinc (i := 3) (v := i_3 + (1 : Int32)) (lv' := [(0, .ref a0), (1, .int i_1), (2, .int i_2), (3, .int (i_3 + (1 : Int32)))]) dX2_figures_77 rfl rfl (Nat.le_of_ble_eq_true rfl) rfl rfl ?_
      refine v_goto 25 dX2_figures_80 (by decide) ?_
      exact V.weak hf (by omega) (by omega)
theorem b_X2_figures {G : Gt} {h : Hp} {mc ms : Nat} {a0 : Nat} {i_1 : Int32} {i_2 : Int32} {K : Int32 → Hp → Prop} (hG : Base G) (hf : ∀ E : Ev, V G E Y_X2_figures cX2_figures 4 (QM G E (kI K) xN) h mc ms 0 [(0, .ref a0), (1, .int i_1), (2, .int i_2)] []) : MM G Y_X2_figures cX2_figures 4 mc ms [.ref a0, .int i_1, .int i_2] h (kI K) xN := mm_of hG (by decide +kernel) rfl (ac_c rfl (ac_c rfl (ac_c rfl ac_nil))) (Nat.le_of_ble_eq_true rfl) (fun E _ _ => hf E)
abbrev Y_X2_lockHere : Yt := (yX2_lockHere, some (.boolean), 3, 85, [])
def f_X2_lockHere (G : Gt) (h : Hp) (k n : Nat) (t_0 : Option Nat) (i_1 : Int32) (K : Int32 → Hp → Prop) : Prop :=
gR h t_0 2 16 fun r1 =>
sI h r1 i_1 (-1 : Int32) fun h11 =>
rv h11 t_0 2 (f_X2_skips G h11 t_0 (45 : Int32) (fun i16 h15 =>
((¬ (i16 = 0) → K (1 : Int32) h15) ∧
(i16 = 0 → rv h15 t_0 2 (dI G Y_X2_figures cX2_figures 4 [va_rf t_0, .int i_1, .int (1 : Int32)] h15 k n (fun i22 h21 k25 n26 =>
((i22 = 0 → K (0 : Int32) h21) ∧
(¬ (i22 = 0) → K (1 : Int32) h21))) xN)))))
theorem m_X2_lockHere {G : Gt} {h : Hp} {mc ms : Nat} {a0 : Nat} {i_1 : Int32} {K : Int32 → Hp → Prop} (hG : Base G) (hA : 0 ≤ mc) (hB : 0 ≤ ms) (hf : f_X2_lockHere G h (mc - 0) (ms - 0) (some a0) i_1 K) : MM G Y_X2_lockHere cX2_lockHere 2 mc ms [.ref a0, .int i_1] h (kI K) xN := by
  refine mm_of hG (by decide +kernel) rfl (ac_c rfl (ac_c rfl ac_nil)) (Nat.le_of_ble_eq_true rfl) (fun E _ _ => ?_)
  obtain ⟨k, hk9⟩ : ∃ z, z = mc - 0 := ⟨_, rfl⟩
  obtain ⟨n, hn9⟩ : ∃ z, z = ms - 0 := ⟨_, rfl⟩
  rw [← hk9, ← hn9] at hf
  refine V.weak (k' := k + 0) (n' := n + 0) ?_ (by omega) (by omega)
  show V G E Y_X2_lockHere cX2_lockHere 2 (QM G E (kI K) xN) h (k + 0) (n + 0) 0 [(0, .ref a0), (1, .int i_1)] []
  unfold f_X2_lockHere at hf
  refine v_qload_n (r := (some a0)) (i := 0) dX2_lockHere_0 rfl rfl ?_
  replace hf := gR_e hf
  obtain ⟨w2, fs3, r1, hh4, hk5, hf⟩ := hf
  refine v_getf (T := TX2) (ci := 2) 16 dX2_lockHere_1 q2504 rfl in_X2 (Nat.le_of_ble_eq_true rfl) (Or.inl rfl) hh4 hk5 ?_
  refine v_iload_n (i := 1) dX2_lockHere_4 rfl rfl ?_
  refine v_iconst (v := -1) dX2_lockHere_5 (by decide) ?_
  obtain ⟨a6, rfl⟩ := sI_s hf
  replace hf := sI_e hf
  obtain ⟨N7, f8, hh9, hi10, hf⟩ := hf
  refine v_iast dX2_lockHere_6 hh9 hi10 ?_
  obtain ⟨h11, eh11⟩ : ∃ z, z = hs h a6 (true, .inl (0, N7, .inl (upd f8 (i_1).toNatClampNeg ((-1 : Int32))))) := ⟨_, rfl⟩
  try rw [← eh11] at hf
  rw [← eh11]
  refine v_qload_n (r := (some a0)) (i := 0) dX2_lockHere_7 rfl rfl ?_
  refine v_bipush (v := 45) dX2_lockHere_8 (by decide) ?_
  replace hf := rv_e hf
  obtain ⟨w12, fs13, hh14, hf⟩ := hf
  refine V.addK0 ?_
  refine V.addN0 ?_
  refine v_callV (mc := 0) (ms := 0) 1 dX2_lockHere_10 (m_X2_skips hG hf) rfl hh14 rfl (lw_V q2739 q2741 qs72 q98 q2742) rfl (by decide +kernel) (by decide) rfl (cat_len (Nat.le_of_ble_eq_true rfl)) (kk_I fun i16 h15 hg => ?_) (fun _ _ _ hx => hx.elim)
  replace hf := hg
  clear hg
  refine v_if_ne 25 dX2_lockHere_13 (by decide) (fun c17 => ?_) (fun c17 => ?_)
  · replace hf := hf.1 c17
    refine v_iconst (v := 1) dX2_lockHere_25 (by decide) ?_
    refine v_goto 30 dX2_lockHere_26 (by decide) ?_
    exact v_zret dX2_lockHere_30 rfl (by decide) ⟨_, rfl, hf⟩
  · replace hf := hf.2 c17
    refine v_qload_n (r := (some a0)) (i := 0) dX2_lockHere_16 rfl rfl ?_
    refine v_iload_n (i := 1) dX2_lockHere_17 rfl rfl ?_
    refine v_iconst (v := 1) dX2_lockHere_18 (by decide) ?_
    replace hf := rv_e hf
    obtain ⟨w18, fs19, hh20, hf⟩ := hf
    obtain ⟨mc23, ms24, hkmc23, hnms24, hM⟩ := hf
    refine V.weak (k' := ((k - mc23) + 0) + mc23) (n' := ((n - ms24) + 0) + ms24) ?_ (by omega) (by omega)
    refine v_callV 2 dX2_lockHere_19 hM rfl hh20 rfl (lw_V q2758 q2760 qs76 q98 q2761) rfl (by decide +kernel) (by decide) rfl (cat_len (Nat.le_of_ble_eq_true rfl)) (kk_I fun i22 h21 hg => ?_) (fun _ _ _ hx => hx.elim)
    have hf := hg
    clear hg
    refine v_if_eq 29 dX2_lockHere_22 (by decide) (fun c27 => ?_) (fun c27 => ?_)
    · replace hf := hf.1 c27
      refine v_iconst (v := 0) dX2_lockHere_29 (by decide) ?_
      exact v_zret dX2_lockHere_30 rfl (by decide) ⟨_, rfl, hf⟩
    · replace hf := hf.2 c27
      refine v_iconst (v := 1) dX2_lockHere_25 (by decide) ?_
      refine v_goto 30 dX2_lockHere_26 (by decide) ?_
      exact v_zret dX2_lockHere_30 rfl (by decide) ⟨_, rfl, hf⟩
abbrev Y_X2_doorHere : Yt := (yX2_doorHere, some (.boolean), 4, 106, [])
def f_X2_doorHere (G : Gt) (h : Hp) (k n : Nat) (t_0 : Option Nat) (i_1 : Int32) (K : Int32 → Hp → Prop) : Prop :=
rv h t_0 2 (dI G Y_X2_figures cX2_figures 4 [va_rf t_0, .int (i_1 + (1 : Int32)), .int (1 : Int32)] h k n (fun i5 h4 k8 n9 =>
((i5 = 0 → K (0 : Int32) h4) ∧
(¬ (i5 = 0) → rv h4 t_0 2 (f_X2_skips G h4 t_0 (32 : Int32) (fun i15 h14 =>
((i15 = 0 → K (0 : Int32) h14) ∧
(¬ (i15 = 0) → rv h14 t_0 2 (dI G Y_X2_figures cX2_figures 4 [va_rf t_0, .int (i_1 + (2 : Int32)), .int (1 : Int32)] h14 k8 n9 (fun i21 h20 k24 n25 =>
((i21 = 0 → K (0 : Int32) h20) ∧
(¬ (i21 = 0) → rv h20 t_0 2 (f_X2_skips G h20 t_0 (32 : Int32) (fun i31 h30 =>
((i31 = 0 → K (0 : Int32) h30) ∧
(¬ (i31 = 0) → rv h30 t_0 2 (dI G Y_X2_figures cX2_figures 4 [va_rf t_0, .int (i_1 + (3 : Int32)), .int (1 : Int32)] h30 k24 n25 (fun i37 h36 k40 n41 =>
((i37 = 0 → K (0 : Int32) h36) ∧
(¬ (i37 = 0) → rv h36 t_0 2 (f_X2_skips G h36 t_0 (32 : Int32) (fun i47 h46 =>
((i47 = 0 → K (0 : Int32) h46) ∧
(¬ (i47 = 0) → rv h46 t_0 2 (dI G Y_X2_lockHere cX2_lockHere 2 [va_rf t_0, .int (i_1 + (4 : Int32))] h46 k40 n41 (fun i53 h52 k56 n57 =>
((i53 = 0 → K (0 : Int32) h52) ∧
(¬ (i53 = 0) → K (1 : Int32) h52))) xN)))))))) xN)))))))) xN)))))))) xN)
theorem m_X2_doorHere {G : Gt} {h : Hp} {mc ms : Nat} {a0 : Nat} {i_1 : Int32} {K : Int32 → Hp → Prop} (hG : Base G) (hA : 0 ≤ mc) (hB : 0 ≤ ms) (hf : f_X2_doorHere G h (mc - 0) (ms - 0) (some a0) i_1 K) : MM G Y_X2_doorHere cX2_doorHere 2 mc ms [.ref a0, .int i_1] h (kI K) xN := by
  refine mm_of hG (by decide +kernel) rfl (ac_c rfl (ac_c rfl ac_nil)) (Nat.le_of_ble_eq_true rfl) (fun E _ _ => ?_)
  obtain ⟨k, hk9⟩ : ∃ z, z = mc - 0 := ⟨_, rfl⟩
  obtain ⟨n, hn9⟩ : ∃ z, z = ms - 0 := ⟨_, rfl⟩
  rw [← hk9, ← hn9] at hf
  refine V.weak (k' := k + 0) (n' := n + 0) ?_ (by omega) (by omega)
  show V G E Y_X2_doorHere cX2_doorHere 2 (QM G E (kI K) xN) h (k + 0) (n + 0) 0 [(0, .ref a0), (1, .int i_1)] []
  unfold f_X2_doorHere at hf
  refine v_qload_n (r := (some a0)) (i := 0) dX2_doorHere_0 rfl rfl ?_
  refine v_iload_n (i := 1) dX2_doorHere_1 rfl rfl ?_
  refine v_iconst (v := 1) dX2_doorHere_2 (by decide) ?_
  refine v_iadd dX2_doorHere_3 ?_
  refine v_iconst (v := 1) dX2_doorHere_4 (by decide) ?_
  replace hf := rv_e hf
  obtain ⟨w1, fs2, hh3, hf⟩ := hf
  obtain ⟨mc6, ms7, hkmc6, hnms7, hM⟩ := hf
  refine V.weak (k' := ((k - mc6) + 0) + mc6) (n' := ((n - ms7) + 0) + ms7) ?_ (by omega) (by omega)
  refine v_callV 2 dX2_doorHere_5 hM rfl hh3 rfl (lw_V q2758 q2760 qs76 q98 q2761) rfl (by decide +kernel) (by decide) rfl (cat_len (Nat.le_of_ble_eq_true rfl)) (kk_I fun i5 h4 hg => ?_) (fun _ _ _ hx => hx.elim)
  have hf := hg
  clear hg
  refine v_if_eq 74 dX2_doorHere_8 (by decide) (fun c10 => ?_) (fun c10 => ?_)
  · replace hf := hf.1 c10
    refine v_iconst (v := 0) dX2_doorHere_74 (by decide) ?_
    exact v_zret dX2_doorHere_75 rfl (by decide) ⟨_, rfl, hf⟩
  · replace hf := hf.2 c10
    refine v_qload_n (r := (some a0)) (i := 0) dX2_doorHere_11 rfl rfl ?_
    refine v_bipush (v := 32) dX2_doorHere_12 (by decide) ?_
    replace hf := rv_e hf
    obtain ⟨w11, fs12, hh13, hf⟩ := hf
    refine V.addK0 ?_
    refine V.addN0 ?_
    refine v_callV (mc := 0) (ms := 0) 1 dX2_doorHere_14 (m_X2_skips hG hf) rfl hh13 rfl (lw_V q2739 q2741 qs72 q98 q2742) rfl (by decide +kernel) (by decide) rfl (cat_len (Nat.le_of_ble_eq_true rfl)) (kk_I fun i15 h14 hg => ?_) (fun _ _ _ hx => hx.elim)
    replace hf := hg
    clear hg
    refine v_if_eq 74 dX2_doorHere_17 (by decide) (fun c16 => ?_) (fun c16 => ?_)
    · replace hf := hf.1 c16
      refine v_iconst (v := 0) dX2_doorHere_74 (by decide) ?_
      exact v_zret dX2_doorHere_75 rfl (by decide) ⟨_, rfl, hf⟩
    · replace hf := hf.2 c16
      refine v_qload_n (r := (some a0)) (i := 0) dX2_doorHere_20 rfl rfl ?_
      refine v_iload_n (i := 1) dX2_doorHere_21 rfl rfl ?_
      refine v_iconst (v := 2) dX2_doorHere_22 (by decide) ?_
      refine v_iadd dX2_doorHere_23 ?_
      refine v_iconst (v := 1) dX2_doorHere_24 (by decide) ?_
      replace hf := rv_e hf
      obtain ⟨w17, fs18, hh19, hf⟩ := hf
      obtain ⟨mc22, ms23, hkmc22, hnms23, hM⟩ := hf
      refine V.weak (k' := (((k - mc6) - mc22) + 0) + mc22) (n' := (((n - ms7) - ms23) + 0) + ms23) ?_ (by omega) (by omega)
      refine v_callV 2 dX2_doorHere_25 hM rfl hh19 rfl (lw_V q2758 q2760 qs76 q98 q2761) rfl (by decide +kernel) (by decide) rfl (cat_len (Nat.le_of_ble_eq_true rfl)) (kk_I fun i21 h20 hg => ?_) (fun _ _ _ hx => hx.elim)
      have hf := hg
      clear hg
      refine v_if_eq 74 dX2_doorHere_28 (by decide) (fun c26 => ?_) (fun c26 => ?_)
      · replace hf := hf.1 c26
        refine v_iconst (v := 0) dX2_doorHere_74 (by decide) ?_
        exact v_zret dX2_doorHere_75 rfl (by decide) ⟨_, rfl, hf⟩
      · replace hf := hf.2 c26
        refine v_qload_n (r := (some a0)) (i := 0) dX2_doorHere_31 rfl rfl ?_
        refine v_bipush (v := 32) dX2_doorHere_32 (by decide) ?_
        replace hf := rv_e hf
        obtain ⟨w27, fs28, hh29, hf⟩ := hf
        refine V.addK0 ?_
        refine V.addN0 ?_
        refine v_callV (mc := 0) (ms := 0) 1 dX2_doorHere_34 (m_X2_skips hG hf) rfl hh29 rfl (lw_V q2739 q2741 qs72 q98 q2742) rfl (by decide +kernel) (by decide) rfl (cat_len (Nat.le_of_ble_eq_true rfl)) (kk_I fun i31 h30 hg => ?_) (fun _ _ _ hx => hx.elim)
        replace hf := hg
        clear hg
        refine v_if_eq 74 dX2_doorHere_37 (by decide) (fun c32 => ?_) (fun c32 => ?_)
        · replace hf := hf.1 c32
          refine v_iconst (v := 0) dX2_doorHere_74 (by decide) ?_
          exact v_zret dX2_doorHere_75 rfl (by decide) ⟨_, rfl, hf⟩
        · replace hf := hf.2 c32
          refine v_qload_n (r := (some a0)) (i := 0) dX2_doorHere_40 rfl rfl ?_
          refine v_iload_n (i := 1) dX2_doorHere_41 rfl rfl ?_
          refine v_iconst (v := 3) dX2_doorHere_42 (by decide) ?_
          refine v_iadd dX2_doorHere_43 ?_
          refine v_iconst (v := 1) dX2_doorHere_44 (by decide) ?_
          replace hf := rv_e hf
          obtain ⟨w33, fs34, hh35, hf⟩ := hf
          obtain ⟨mc38, ms39, hkmc38, hnms39, hM⟩ := hf
          refine V.weak (k' := ((((k - mc6) - mc22) - mc38) + 0) + mc38) (n' := ((((n - ms7) - ms23) - ms39) + 0) + ms39) ?_ (by omega) (by omega)
          refine v_callV 2 dX2_doorHere_45 hM rfl hh35 rfl (lw_V q2758 q2760 qs76 q98 q2761) rfl (by decide +kernel) (by decide) rfl (cat_len (Nat.le_of_ble_eq_true rfl)) (kk_I fun i37 h36 hg => ?_) (fun _ _ _ hx => hx.elim)
          have hf := hg
          clear hg
          refine v_if_eq 74 dX2_doorHere_48 (by decide) (fun c42 => ?_) (fun c42 => ?_)
          · replace hf := hf.1 c42
            refine v_iconst (v := 0) dX2_doorHere_74 (by decide) ?_
            exact v_zret dX2_doorHere_75 rfl (by decide) ⟨_, rfl, hf⟩
          · replace hf := hf.2 c42
            refine v_qload_n (r := (some a0)) (i := 0) dX2_doorHere_51 rfl rfl ?_
            refine v_bipush (v := 32) dX2_doorHere_52 (by decide) ?_
            replace hf := rv_e hf
            obtain ⟨w43, fs44, hh45, hf⟩ := hf
            refine V.addK0 ?_
            refine V.addN0 ?_
            refine v_callV (mc := 0) (ms := 0) 1 dX2_doorHere_54 (m_X2_skips hG hf) rfl hh45 rfl (lw_V q2739 q2741 qs72 q98 q2742) rfl (by decide +kernel) (by decide) rfl (cat_len (Nat.le_of_ble_eq_true rfl)) (kk_I fun i47 h46 hg => ?_) (fun _ _ _ hx => hx.elim)
            replace hf := hg
            clear hg
            refine v_if_eq 74 dX2_doorHere_57 (by decide) (fun c48 => ?_) (fun c48 => ?_)
            · replace hf := hf.1 c48
              refine v_iconst (v := 0) dX2_doorHere_74 (by decide) ?_
              exact v_zret dX2_doorHere_75 rfl (by decide) ⟨_, rfl, hf⟩
            · replace hf := hf.2 c48
              refine v_qload_n (r := (some a0)) (i := 0) dX2_doorHere_60 rfl rfl ?_
              refine v_iload_n (i := 1) dX2_doorHere_61 rfl rfl ?_
              refine v_iconst (v := 4) dX2_doorHere_62 (by decide) ?_
              refine v_iadd dX2_doorHere_63 ?_
              replace hf := rv_e hf
              obtain ⟨w49, fs50, hh51, hf⟩ := hf
              obtain ⟨mc54, ms55, hkmc54, hnms55, hM⟩ := hf
              refine V.weak (k' := (((((k - mc6) - mc22) - mc38) - mc54) + 0) + mc54) (n' := (((((n - ms7) - ms23) - ms39) - ms55) + 0) + ms55) ?_ (by omega) (by omega)
              refine v_callV 1 dX2_doorHere_64 hM rfl hh51 rfl (lw_V q2771 q2773 qs78 q98 q2774) rfl (by decide +kernel) (by decide) rfl (cat_len (Nat.le_of_ble_eq_true rfl)) (kk_I fun i53 h52 hg => ?_) (fun _ _ _ hx => hx.elim)
              have hf := hg
              clear hg
              refine v_if_eq 74 dX2_doorHere_67 (by decide) (fun c58 => ?_) (fun c58 => ?_)
              · replace hf := hf.1 c58
                refine v_iconst (v := 0) dX2_doorHere_74 (by decide) ?_
                exact v_zret dX2_doorHere_75 rfl (by decide) ⟨_, rfl, hf⟩
              · replace hf := hf.2 c58
                refine v_iconst (v := 1) dX2_doorHere_70 (by decide) ?_
                refine v_goto 75 dX2_doorHere_71 (by decide) ?_
                exact v_zret dX2_doorHere_75 rfl (by decide) ⟨_, rfl, hf⟩
abbrev Y_X2_writes : Yt := (yX2_writes, none, 1, 40, [])
def f_X2_writes (G : Gt) (h : Hp) (t_0 : Option Nat) (i_1 : Int32) (K : Hp → Prop) : Prop :=
gR h t_0 2 11 fun r1 =>
gI h t_0 2 12 fun i6 =>
sI h r1 i6 i_1 fun h16 =>
gI h16 t_0 2 12 fun i17 =>
pF h16 t_0 2 12 (.int (i17 + (1 : Int32))) fun h24 =>
K h24
theorem m_X2_writes {G : Gt} {h : Hp} {a0 : Nat} {i_1 : Int32} {K : Hp → Prop} (hG : Base G) (hf : f_X2_writes G h (some a0) i_1 K) : MM G Y_X2_writes cX2_writes 2 0 0 [.ref a0, .int i_1] h (kV K) xN := by
  refine mm_of hG (by decide +kernel) rfl (ac_c rfl (ac_c rfl ac_nil)) (Nat.le_of_ble_eq_true rfl) (fun E _ _ => ?_)
  show V G E Y_X2_writes cX2_writes 2 (QM G E (kV K) xN) h 0 0 0 [(0, .ref a0), (1, .int i_1)] []
  unfold f_X2_writes at hf
  refine v_qload_n (r := (some a0)) (i := 0) dX2_writes_0 rfl rfl ?_
  replace hf := gR_e hf
  obtain ⟨w2, fs3, r1, hh4, hk5, hf⟩ := hf
  refine v_getf (T := TX2) (ci := 2) 11 dX2_writes_1 q2499 rfl in_X2 (Nat.le_of_ble_eq_true rfl) (Or.inl rfl) hh4 hk5 ?_
  refine v_qload_n (r := (some a0)) (i := 0) dX2_writes_4 rfl rfl ?_
  replace hf := gI_e hf
  obtain ⟨w7, fs8, i6, hh9, hk10, hf⟩ := hf
  refine v_getf (T := TX2) (ci := 2) 12 dX2_writes_5 q2500 rfl in_X2 (Nat.le_of_ble_eq_true rfl) (Or.inl rfl) hh9 hk10 ?_
  refine v_iload_n (i := 1) dX2_writes_8 rfl rfl ?_
  obtain ⟨a11, rfl⟩ := sI_s hf
  replace hf := sI_e hf
  obtain ⟨N12, f13, hh14, hi15, hf⟩ := hf
  refine v_iast dX2_writes_9 hh14 hi15 ?_
  obtain ⟨h16, eh16⟩ : ∃ z, z = hs h a11 (true, .inl (0, N12, .inl (upd f13 (i6).toNatClampNeg (i_1)))) := ⟨_, rfl⟩
  try rw [← eh16] at hf
  rw [← eh16]
  refine v_qload_n (r := (some a0)) (i := 0) dX2_writes_10 rfl rfl ?_
  refine v_dup dX2_writes_11 (rf_cat _) ?_
  replace hf := gI_e hf
  obtain ⟨w18, fs19, i17, hh20, hk21, hf⟩ := hf
  refine v_getf (T := TX2) (ci := 2) 12 dX2_writes_12 q2500 rfl in_X2 (Nat.le_of_ble_eq_true rfl) (Or.inl rfl) hh20 hk21 ?_
  refine v_iconst (v := 1) dX2_writes_15 (by decide) ?_
  refine v_iadd dX2_writes_16 ?_
  replace hf := pF_e hf
  obtain ⟨fs22, hh23, hf⟩ := hf
  refine v_putf (v := .int (i17 + (1 : Int32))) (T := TX2) (ci := 2) (ty := .int) 12 dX2_writes_17 q2500 rfl in_X2 tyX2 tyX2_ok nmX2 (Nat.le_of_ble_eq_true rfl) (Or.inl rfl) rfl (by decide +kernel) rfl rfl hh23 ?_
  obtain ⟨h24, eh24⟩ : ∃ z, z = hs h16 a0 (true, .inr (2, fs22.set 12 (.int (i17 + (1 : Int32))))) := ⟨_, rfl⟩
  try rw [← eh24] at hf
  rw [← eh24]
  exact v_vret dX2_writes_20 rfl ⟨rfl, hf⟩
abbrev Y_X2_writesNumber : Yt := (yX2_writesNumber, none, 2, 61, [])
def f_X2_writesNumber (G : Gt) (h : Hp) (t_0 : Option Nat) (i_1 : Int32) (K : Hp → Prop) : Prop :=
((i_1 ≤ (9 : Int32) → rv h t_0 2 (f_X2_writes G h t_0 ((48 : Int32) + (i_1 - i_1 / (10 : Int32) * (10 : Int32))) (fun h5 =>
K h5))) ∧
(¬ (i_1 ≤ (9 : Int32)) → rv h t_0 2 (f_X2_writes G h t_0 ((48 : Int32) + (i_1 / (10 : Int32))) (fun h9 =>
rv h9 t_0 2 (f_X2_writes G h9 t_0 ((48 : Int32) + (i_1 - i_1 / (10 : Int32) * (10 : Int32))) (fun h13 =>
K h13))))))
theorem m_X2_writesNumber {G : Gt} {h : Hp} {a0 : Nat} {i_1 : Int32} {K : Hp → Prop} (hG : Base G) (hf : f_X2_writesNumber G h (some a0) i_1 K) : MM G Y_X2_writesNumber cX2_writesNumber 2 0 0 [.ref a0, .int i_1] h (kV K) xN := by
  refine mm_of hG (by decide +kernel) rfl (ac_c rfl (ac_c rfl ac_nil)) (Nat.le_of_ble_eq_true rfl) (fun E _ _ => ?_)
  show V G E Y_X2_writesNumber cX2_writesNumber 2 (QM G E (kV K) xN) h 0 0 0 [(0, .ref a0), (1, .int i_1)] []
  unfold f_X2_writesNumber at hf
  refine v_iload_n (i := 1) dX2_writesNumber_0 rfl rfl ?_
  refine v_bipush (v := 9) dX2_writesNumber_1 (by decide) ?_
  refine v_icmp_le 17 dX2_writesNumber_3 (by decide) (fun c1 => ?_) (fun c1 => ?_)
  · replace hf := hf.1 c1
    refine v_qload_n (r := (some a0)) (i := 0) dX2_writesNumber_17 rfl rfl ?_
    refine v_bipush (v := 48) dX2_writesNumber_18 (by decide) ?_
    refine v_iload_n (i := 1) dX2_writesNumber_20 rfl rfl ?_
    refine v_bipush (v := 10) dX2_writesNumber_21 (by decide) ?_
    refine v_irem dX2_writesNumber_23 (by decide) ?_
    refine v_iadd dX2_writesNumber_24 ?_
    replace hf := rv_e hf
    obtain ⟨w2, fs3, hh4, hf⟩ := hf
    refine V.addK0 ?_
    refine V.addN0 ?_
    refine v_callV (mc := 0) (ms := 0) 1 dX2_writesNumber_25 (m_X2_writes hG hf) rfl hh4 rfl (lw_V q2797 q2799 qs81 q98 q2800) rfl (by decide +kernel) (by decide) rfl (cat_len (Nat.le_of_ble_eq_true rfl)) (kk_V fun h5 hg => ?_) (fun _ _ _ hx => hx.elim)
    replace hf := hg
    clear hg
    exact v_vret dX2_writesNumber_28 rfl ⟨rfl, hf⟩
  · replace hf := hf.2 c1
    refine v_qload_n (r := (some a0)) (i := 0) dX2_writesNumber_6 rfl rfl ?_
    refine v_bipush (v := 48) dX2_writesNumber_7 (by decide) ?_
    refine v_iload_n (i := 1) dX2_writesNumber_9 rfl rfl ?_
    refine v_bipush (v := 10) dX2_writesNumber_10 (by decide) ?_
    refine v_idiv dX2_writesNumber_12 (by decide) ?_
    refine v_iadd dX2_writesNumber_13 ?_
    replace hf := rv_e hf
    obtain ⟨w6, fs7, hh8, hf⟩ := hf
    refine V.addK0 ?_
    refine V.addN0 ?_
    refine v_callV (mc := 0) (ms := 0) 1 dX2_writesNumber_14 (m_X2_writes hG hf) rfl hh8 rfl (lw_V q2797 q2799 qs81 q98 q2800) rfl (by decide +kernel) (by decide) rfl (cat_len (Nat.le_of_ble_eq_true rfl)) (kk_V fun h9 hg => ?_) (fun _ _ _ hx => hx.elim)
    replace hf := hg
    clear hg
    refine v_qload_n (r := (some a0)) (i := 0) dX2_writesNumber_17 rfl rfl ?_
    refine v_bipush (v := 48) dX2_writesNumber_18 (by decide) ?_
    refine v_iload_n (i := 1) dX2_writesNumber_20 rfl rfl ?_
    refine v_bipush (v := 10) dX2_writesNumber_21 (by decide) ?_
    refine v_irem dX2_writesNumber_23 (by decide) ?_
    refine v_iadd dX2_writesNumber_24 ?_
    replace hf := rv_e hf
    obtain ⟨w10, fs11, hh12, hf⟩ := hf
    refine V.addK0 ?_
    refine V.addN0 ?_
    refine v_callV (mc := 0) (ms := 0) 1 dX2_writesNumber_25 (m_X2_writes hG hf) rfl hh12 rfl (lw_V q2797 q2799 qs81 q98 q2800) rfl (by decide +kernel) (by decide) rfl (cat_len (Nat.le_of_ble_eq_true rfl)) (kk_V fun h13 hg => ?_) (fun _ _ _ hx => hx.elim)
    replace hf := hg
    clear hg
    exact v_vret dX2_writesNumber_28 rfl ⟨rfl, hf⟩
abbrev Y_X2_tell : Yt := (yX2_tell, some (.int), 3, 83, [])
def g_X2_tell_0 (G : Gt) (E : Ev) (h : Hp) (k n : Nat) (a0 : Nat) (i_1 : Int32) (K : Int32 → Hp → Prop) : Prop :=
rv h (some a0) 2 (f_X2_isRoom G h (some a0) i_1 (fun i5 h4 =>
((¬ (i5 = 0) → pF h4 (some a0) 2 12 (.int (0 : Int32)) fun h9 =>
rv h9 (some a0) 2 (f_X2_writesNumber G h9 (some a0) i_1 (fun h13 =>
rv h13 (some a0) 2 (f_X2_writes G h13 (some a0) (42 : Int32) (fun h17 =>
rv h17 (some a0) 2 (f_X2_oilOf G h17 (some a0) i_1 (fun i22 h21 =>
rv h21 (some a0) 2 (f_X2_writesNumber G h21 (some a0) i22 (fun h26 =>
V G E Y_X2_tell cX2_tell 4 (QM G E (kI K) xN) h26 k n 39 [(0, .ref a0), (1, .int i_1), (2, .int (0 : Int32))] []))))))))) ∧
(i5 = 0 → K (-1011 : Int32) h4))))
theorem s_X2_tell_0 {G : Gt} {E : Ev} {h : Hp} {k0 n0 : Nat} {a0 : Nat} {i_1 : Int32} {K : Int32 → Hp → Prop} (hG : Base G) (hA : 0 ≤ k0) (hB : 0 ≤ n0) (hf : g_X2_tell_0 G E h (k0 - 0) (n0 - 0) a0 i_1 K) : V G E Y_X2_tell cX2_tell 4 (QM G E (kI K) xN) h k0 n0 0 [(0, .ref a0), (1, .int i_1)] [] := by
  obtain ⟨k, hk9⟩ : ∃ z, z = k0 - 0 := ⟨_, rfl⟩
  obtain ⟨n, hn9⟩ : ∃ z, z = n0 - 0 := ⟨_, rfl⟩
  rw [← hk9, ← hn9] at hf
  refine V.weak (k' := k + 0) (n' := n + 0) ?_ (by omega) (by omega)
  unfold g_X2_tell_0 at hf
  refine v_aload_n (i := 0) dX2_tell_0 rfl rfl ?_
  refine v_iload_n (i := 1) dX2_tell_1 rfl rfl ?_
  replace hf := rv_e hf
  obtain ⟨w1, fs2, hh3, hf⟩ := hf
  refine V.addK0 ?_
  refine V.addN0 ?_
  refine v_callV (mc := 0) (ms := 0) 1 dX2_tell_2 (m_X2_isRoom hG hf) rfl hh3 rfl (lw_V q2565 q2567 qs49 q98 q2568) rfl (by decide +kernel) (by decide) rfl (cat_len (Nat.le_of_ble_eq_true rfl)) (kk_I fun i5 h4 hg => ?_) (fun _ _ _ hx => hx.elim)
  replace hf := hg
  clear hg
  refine v_if_ne 12 dX2_tell_5 (by decide) (fun c6 => ?_) (fun c6 => ?_)
  · replace hf := hf.1 c6
    refine v_aload_n (i := 0) dX2_tell_12 rfl rfl ?_
    refine v_iconst (v := 0) dX2_tell_13 (by decide) ?_
    replace hf := pF_e hf
    obtain ⟨fs7, hh8, hf⟩ := hf
    refine v_putf (v := .int (0 : Int32)) (T := TX2) (ci := 2) (ty := .int) 12 dX2_tell_14 q2500 rfl in_X2 tyX2 tyX2_ok nmX2 (Nat.le_of_ble_eq_true rfl) (Or.inl rfl) rfl (by decide +kernel) rfl rfl hh8 ?_
    obtain ⟨h9, eh9⟩ : ∃ z, z = hs h4 a0 (true, .inr (2, fs7.set 12 (.int (0 : Int32)))) := ⟨_, rfl⟩
    try rw [← eh9] at hf
    rw [← eh9]
    refine v_aload_n (i := 0) dX2_tell_17 rfl rfl ?_
    refine v_iload_n (i := 1) dX2_tell_18 rfl rfl ?_
    replace hf := rv_e hf
    obtain ⟨w10, fs11, hh12, hf⟩ := hf
    refine V.addK0 ?_
    refine V.addN0 ?_
    refine v_callV (mc := 0) (ms := 0) 1 dX2_tell_19 (m_X2_writesNumber hG hf) rfl hh12 rfl (lw_V q2793 q2795 qs80 q98 q2796) rfl (by decide +kernel) (by decide) rfl (cat_len (Nat.le_of_ble_eq_true rfl)) (kk_V fun h13 hg => ?_) (fun _ _ _ hx => hx.elim)
    replace hf := hg
    clear hg
    refine v_aload_n (i := 0) dX2_tell_22 rfl rfl ?_
    refine v_bipush (v := 42) dX2_tell_23 (by decide) ?_
    replace hf := rv_e hf
    obtain ⟨w14, fs15, hh16, hf⟩ := hf
    refine V.addK0 ?_
    refine V.addN0 ?_
    refine v_callV (mc := 0) (ms := 0) 1 dX2_tell_25 (m_X2_writes hG hf) rfl hh16 rfl (lw_V q2797 q2799 qs81 q98 q2800) rfl (by decide +kernel) (by decide) rfl (cat_len (Nat.le_of_ble_eq_true rfl)) (kk_V fun h17 hg => ?_) (fun _ _ _ hx => hx.elim)
    replace hf := hg
    clear hg
    refine v_aload_n (i := 0) dX2_tell_28 rfl rfl ?_
    refine v_aload_n (i := 0) dX2_tell_29 rfl rfl ?_
    refine v_iload_n (i := 1) dX2_tell_30 rfl rfl ?_
    replace hf := rv_e hf
    obtain ⟨w18, fs19, hh20, hf⟩ := hf
    refine V.addK0 ?_
    refine V.addN0 ?_
    refine v_callV (mc := 0) (ms := 0) 1 dX2_tell_31 (m_X2_oilOf hG hf) rfl hh20 rfl (lw_V q2594 q2596 qs52 q98 q2597) rfl (by decide +kernel) (by decide) rfl (cat_len (Nat.le_of_ble_eq_true rfl)) (kk_I fun i22 h21 hg => ?_) (fun _ _ _ hx => hx.elim)
    replace hf := hg
    clear hg
    replace hf := rv_e hf
    obtain ⟨w23, fs24, hh25, hf⟩ := hf
    refine V.addK0 ?_
    refine V.addN0 ?_
    refine v_callV (mc := 0) (ms := 0) 1 dX2_tell_34 (m_X2_writesNumber hG hf) rfl hh25 rfl (lw_V q2793 q2795 qs80 q98 q2796) rfl (by decide +kernel) (by decide) rfl (cat_len (Nat.le_of_ble_eq_true rfl)) (kk_V fun h26 hg => ?_) (fun _ _ _ hx => hx.elim)
    replace hf := hg
    clear hg
    refine v_iconst (v := 0) dX2_tell_37 (by decide) ?_
    refine v_istore_n (i := 2) (lv' := [(0, .ref a0), (1, .int i_1), (2, .int (0 : Int32))]) dX2_tell_38 rfl (Nat.le_of_ble_eq_true rfl) rfl rfl ?_
    exact V.weak hf (by omega) (by omega)
  · replace hf := hf.2 c6
    refine v_sipush (v := -1011) dX2_tell_8 (by decide) ?_
    exact v_iret dX2_tell_11 rfl ⟨_, rfl, hf⟩
def g_X2_tell_39 (G : Gt) (E : Ev) (h : Hp) (k n : Nat) (a0 : Nat) (i_1 : Int32) (i_2 : Int32) (K : Int32 → Hp → Prop) : Prop :=
(((3 : Int32) ≤ i_2 → gR h (some a0) 2 0 fun r2 =>
aI h r2 0 (2 : Int32) fun i13 =>
((¬ (i13 = i_1) → gI h (some a0) 2 12 fun i15 =>
K i15 h) ∧
(i13 = i_1 → rv h (some a0) 2 (f_X2_writes G h (some a0) (64 : Int32) (fun h23 =>
gI h23 (some a0) 2 12 fun i24 =>
K i24 h23))))) ∧
(¬ ((3 : Int32) ≤ i_2) → V G E Y_X2_tell cX2_tell 4 (QM G E (kI K) xN) h k n 46 [(0, .ref a0), (1, .int i_1), (2, .int i_2), (3, .int (0 : Int32))] []))
theorem s_X2_tell_39 {G : Gt} {E : Ev} {h : Hp} {k0 n0 : Nat} {a0 : Nat} {i_1 : Int32} {i_2 : Int32} {K : Int32 → Hp → Prop} (hG : Base G) (hA : 0 ≤ k0) (hB : 0 ≤ n0) (hf : g_X2_tell_39 G E h (k0 - 0) (n0 - 0) a0 i_1 i_2 K) : V G E Y_X2_tell cX2_tell 4 (QM G E (kI K) xN) h k0 n0 39 [(0, .ref a0), (1, .int i_1), (2, .int i_2)] [] := by
  obtain ⟨k, hk9⟩ : ∃ z, z = k0 - 0 := ⟨_, rfl⟩
  obtain ⟨n, hn9⟩ : ∃ z, z = n0 - 0 := ⟨_, rfl⟩
  rw [← hk9, ← hn9] at hf
  refine V.weak (k' := k + 0) (n' := n + 0) ?_ (by omega) (by omega)
  unfold g_X2_tell_39 at hf
  refine v_iload_n (i := 2) dX2_tell_39 rfl rfl ?_
  refine v_iconst (v := 3) dX2_tell_40 (by decide) ?_
  refine v_icmp_ge 85 dX2_tell_41 (by decide) (fun c1 => ?_) (fun c1 => ?_)
  · replace hf := hf.1 c1
    refine v_aload_n (i := 0) dX2_tell_85 rfl rfl ?_
    replace hf := gR_e hf
    obtain ⟨w3, fs4, r2, hh5, hk6, hf⟩ := hf
    refine v_getf (T := TX2) (ci := 2) 0 dX2_tell_86 q2488 rfl in_X2 (Nat.le_of_ble_eq_true rfl) (Or.inl rfl) hh5 hk6 ?_
    refine v_iconst (v := 2) dX2_tell_89 (by decide) ?_
    obtain ⟨a7, rfl⟩ := aI_s hf
    replace hf := aI_e hf
    obtain ⟨w8, N9, f10, hh11, hi12, i13, ei13, hf⟩ := hf
    refine v_iald dX2_tell_90 hh11 hi12 ?_
    rw [← ei13]
    refine v_iload_n (i := 1) dX2_tell_91 rfl rfl ?_
    refine v_icmp_ne 101 dX2_tell_92 (by decide) (fun c14 => ?_) (fun c14 => ?_)
    · replace hf := hf.1 c14
      refine v_aload_n (i := 0) dX2_tell_101 rfl rfl ?_
      replace hf := gI_e hf
      obtain ⟨w16, fs17, i15, hh18, hk19, hf⟩ := hf
      refine v_getf (T := TX2) (ci := 2) 12 dX2_tell_102 q2500 rfl in_X2 (Nat.le_of_ble_eq_true rfl) (Or.inl rfl) hh18 hk19 ?_
      exact v_iret dX2_tell_105 rfl ⟨_, rfl, hf⟩
    · replace hf := hf.2 c14
      refine v_aload_n (i := 0) dX2_tell_95 rfl rfl ?_
      refine v_bipush (v := 64) dX2_tell_96 (by decide) ?_
      replace hf := rv_e hf
      obtain ⟨w20, fs21, hh22, hf⟩ := hf
      refine V.addK0 ?_
      refine V.addN0 ?_
      refine v_callV (mc := 0) (ms := 0) 1 dX2_tell_98 (m_X2_writes hG hf) rfl hh22 rfl (lw_V q2797 q2799 qs81 q98 q2800) rfl (by decide +kernel) (by decide) rfl (cat_len (Nat.le_of_ble_eq_true rfl)) (kk_V fun h23 hg => ?_) (fun _ _ _ hx => hx.elim)
      replace hf := hg
      clear hg
      refine v_aload_n (i := 0) dX2_tell_101 rfl rfl ?_
      replace hf := gI_e hf
      obtain ⟨w25, fs26, i24, hh27, hk28, hf⟩ := hf
      refine v_getf (T := TX2) (ci := 2) 12 dX2_tell_102 q2500 rfl in_X2 (Nat.le_of_ble_eq_true rfl) (Or.inl rfl) hh27 hk28 ?_
      exact v_iret dX2_tell_105 rfl ⟨_, rfl, hf⟩
  · replace hf := hf.2 c1
    refine v_iconst (v := 0) dX2_tell_44 (by decide) ?_
    refine v_istore_n (i := 3) (lv' := [(0, .ref a0), (1, .int i_1), (2, .int i_2), (3, .int (0 : Int32))]) dX2_tell_45 rfl (Nat.le_of_ble_eq_true rfl) rfl rfl ?_
    exact V.weak hf (by omega) (by omega)
def g_X2_tell_46 (G : Gt) (E : Ev) (h : Hp) (k n : Nat) (a0 : Nat) (i_1 : Int32) (i_2 : Int32) (i_3 : Int32) (K : Int32 → Hp → Prop) : Prop :=
gR h (some a0) 2 0 fun r1 =>
aI h r1 0 ((((10 : Int32) + ((4 : Int32) * i_1)) + (1 : Int32)) + i_2) fun i12 =>
((i12 ≤ i_3 → V G E Y_X2_tell cX2_tell 4 (QM G E (kI K) xN) h k n 39 [(0, .ref a0), (1, .int i_1), (2, .int (i_2 + (1 : Int32)))] []) ∧
(¬ (i12 ≤ i_3) → rv h (some a0) 2 (f_X2_writes G h (some a0) ((97 : Int32) + i_2) (fun h17 =>
V G E Y_X2_tell cX2_tell 4 (QM G E (kI K) xN) h17 k n 46 [(0, .ref a0), (1, .int i_1), (2, .int i_2), (3, .int (i_3 + (1 : Int32)))] []))))
theorem s_X2_tell_46 {G : Gt} {E : Ev} {h : Hp} {k0 n0 : Nat} {a0 : Nat} {i_1 : Int32} {i_2 : Int32} {i_3 : Int32} {K : Int32 → Hp → Prop} (hG : Base G) (hA : 0 ≤ k0) (hB : 0 ≤ n0) (hf : g_X2_tell_46 G E h (k0 - 0) (n0 - 0) a0 i_1 i_2 i_3 K) : V G E Y_X2_tell cX2_tell 4 (QM G E (kI K) xN) h k0 n0 46 [(0, .ref a0), (1, .int i_1), (2, .int i_2), (3, .int i_3)] [] := by
  obtain ⟨k, hk9⟩ : ∃ z, z = k0 - 0 := ⟨_, rfl⟩
  obtain ⟨n, hn9⟩ : ∃ z, z = n0 - 0 := ⟨_, rfl⟩
  rw [← hk9, ← hn9] at hf
  refine V.weak (k' := k + 0) (n' := n + 0) ?_ (by omega) (by omega)
  unfold g_X2_tell_46 at hf
  refine v_iload_n (i := 3) dX2_tell_46 rfl rfl ?_
  refine v_aload_n (i := 0) dX2_tell_47 rfl rfl ?_
  replace hf := gR_e hf
  obtain ⟨w2, fs3, r1, hh4, hk5, hf⟩ := hf
  refine v_getf (T := TX2) (ci := 2) 0 dX2_tell_48 q2488 rfl in_X2 (Nat.le_of_ble_eq_true rfl) (Or.inl rfl) hh4 hk5 ?_
  refine v_bipush (v := 10) dX2_tell_51 (by decide) ?_
  refine v_iconst (v := 4) dX2_tell_53 (by decide) ?_
  refine v_iload_n (i := 1) dX2_tell_54 rfl rfl ?_
  refine v_imul dX2_tell_55 ?_
  refine v_iadd dX2_tell_56 ?_
  refine v_iconst (v := 1) dX2_tell_57 (by decide) ?_
  refine v_iadd dX2_tell_58 ?_
  refine v_iload_n (i := 2) dX2_tell_59 rfl rfl ?_
  refine v_iadd dX2_tell_60 ?_
  obtain ⟨a6, rfl⟩ := aI_s hf
  replace hf := aI_e hf
  obtain ⟨w7, N8, f9, hh10, hi11, i12, ei12, hf⟩ := hf
  refine v_iald dX2_tell_61 hh10 hi11 ?_
  rw [← ei12]
  refine v_icmp_ge 79 dX2_tell_62 (by decide) (fun c13 => ?_) (fun c13 => ?_)
  · replace hf := hf.1 c13
    refine v_iinc (i := 2) (v := i_2 + (1 : Int32)) (lv' := [(0, .ref a0), (1, .int i_1), (2, .int (i_2 + (1 : Int32))), (3, .int i_3)]) dX2_tell_79 rfl rfl (Nat.le_of_ble_eq_true rfl) rfl rfl ?_
    refine v_goto 39 dX2_tell_82 (by decide) ?_
    refine V.lp (lv' := [(0, .ref a0), (1, .int i_1), (2, .int (i_2 + (1 : Int32)))]) [0, 1, 2] rfl ?_
    exact V.weak hf (by omega) (by omega)
  · replace hf := hf.2 c13
    refine v_aload_n (i := 0) dX2_tell_65 rfl rfl ?_
    refine v_bipush (v := 97) dX2_tell_66 (by decide) ?_
    refine v_iload_n (i := 2) dX2_tell_68 rfl rfl ?_
    refine v_iadd dX2_tell_69 ?_
    replace hf := rv_e hf
    obtain ⟨w14, fs15, hh16, hf⟩ := hf
    refine V.addK0 ?_
    refine V.addN0 ?_
    refine v_callV (mc := 0) (ms := 0) 1 dX2_tell_70 (m_X2_writes hG hf) rfl hh16 rfl (lw_V q2797 q2799 qs81 q98 q2800) rfl (by decide +kernel) (by decide) rfl (cat_len (Nat.le_of_ble_eq_true rfl)) (kk_V fun h17 hg => ?_) (fun _ _ _ hx => hx.elim)
    replace hf := hg
    clear hg
    refine v_iinc (i := 3) (v := i_3 + (1 : Int32)) (lv' := [(0, .ref a0), (1, .int i_1), (2, .int i_2), (3, .int (i_3 + (1 : Int32)))]) dX2_tell_73 rfl rfl (Nat.le_of_ble_eq_true rfl) rfl rfl ?_
    refine v_goto 46 dX2_tell_76 (by decide) ?_
    exact V.weak hf (by omega) (by omega)
theorem b_X2_tell {G : Gt} {h : Hp} {mc ms : Nat} {a0 : Nat} {i_1 : Int32} {K : Int32 → Hp → Prop} (hG : Base G) (hf : ∀ E : Ev, V G E Y_X2_tell cX2_tell 4 (QM G E (kI K) xN) h mc ms 0 [(0, .ref a0), (1, .int i_1)] []) : MM G Y_X2_tell cX2_tell 4 mc ms [.ref a0, .int i_1] h (kI K) xN := mm_of hG (by decide +kernel) rfl (ac_c rfl (ac_c rfl ac_nil)) (Nat.le_of_ble_eq_true rfl) (fun E _ _ => hf E)
abbrev Y_X2_character : Yt := (yX2_character, some (.int), 2, 62, [])
def f_X2_character (G : Gt) (h : Hp) (t_0 : Option Nat) (i_1 : Int32) (K : Int32 → Hp → Prop) : Prop :=
gI h t_0 2 12 fun i1 =>
f_X2_in G h i_1 (0 : Int32) (i1 - (1 : Int32)) (fun i7 h6 =>
((i7 = 0 → K (-1011 : Int32) h6) ∧
(¬ (i7 = 0) → gR h6 t_0 2 11 fun r9 =>
aI h6 r9 0 i_1 fun i20 =>
K i20 h6)))
theorem m_X2_character {G : Gt} {h : Hp} {a0 : Nat} {i_1 : Int32} {K : Int32 → Hp → Prop} (hG : Base G) (hf : f_X2_character G h (some a0) i_1 K) : MM G Y_X2_character cX2_character 2 0 0 [.ref a0, .int i_1] h (kI K) xN := by
  refine mm_of hG (by decide +kernel) rfl (ac_c rfl (ac_c rfl ac_nil)) (Nat.le_of_ble_eq_true rfl) (fun E _ _ => ?_)
  show V G E Y_X2_character cX2_character 2 (QM G E (kI K) xN) h 0 0 0 [(0, .ref a0), (1, .int i_1)] []
  unfold f_X2_character at hf
  refine v_iload_n (i := 1) dX2_character_0 rfl rfl ?_
  refine v_iconst (v := 0) dX2_character_1 (by decide) ?_
  refine v_qload_n (r := (some a0)) (i := 0) dX2_character_2 rfl rfl ?_
  replace hf := gI_e hf
  obtain ⟨w2, fs3, i1, hh4, hk5, hf⟩ := hf
  refine v_getf (T := TX2) (ci := 2) 12 dX2_character_3 q2500 rfl in_X2 (Nat.le_of_ble_eq_true rfl) (Or.inl rfl) hh4 hk5 ?_
  refine v_iconst (v := 1) dX2_character_6 (by decide) ?_
  refine v_isub dX2_character_7 ?_
  refine V.addK0 ?_
  refine V.addN0 ?_
  refine v_callS (mc := 0) (ms := 0) 3 dX2_character_8 (m_X2_in hG hf) rfl (lw_S q2547 q2548 q98 q2549) rfl (by decide +kernel) (by decide) rfl (cat_len (Nat.le_of_ble_eq_true rfl)) (kk_I fun i7 h6 hg => ?_) (fun _ _ _ hx => hx.elim)
  replace hf := hg
  clear hg
  refine v_if_eq 23 dX2_character_11 (by decide) (fun c8 => ?_) (fun c8 => ?_)
  · replace hf := hf.1 c8
    refine v_sipush (v := -1011) dX2_character_23 (by decide) ?_
    exact v_iret dX2_character_26 rfl ⟨_, rfl, hf⟩
  · replace hf := hf.2 c8
    refine v_qload_n (r := (some a0)) (i := 0) dX2_character_14 rfl rfl ?_
    replace hf := gR_e hf
    obtain ⟨w10, fs11, r9, hh12, hk13, hf⟩ := hf
    refine v_getf (T := TX2) (ci := 2) 11 dX2_character_15 q2499 rfl in_X2 (Nat.le_of_ble_eq_true rfl) (Or.inl rfl) hh12 hk13 ?_
    refine v_iload_n (i := 1) dX2_character_18 rfl rfl ?_
    obtain ⟨a14, rfl⟩ := aI_s hf
    replace hf := aI_e hf
    obtain ⟨w15, N16, f17, hh18, hi19, i20, ei20, hf⟩ := hf
    refine v_iald dX2_character_19 hh18 hi19 ?_
    rw [← ei20]
    refine v_goto 26 dX2_character_20 (by decide) ?_
    exact v_iret dX2_character_26 rfl ⟨_, rfl, hf⟩
abbrev Y_X2_reason : Yt := (yX2_reason, some (.int), 1, 40, [])
def f_X2_reason (G : Gt) (h : Hp) (t_0 : Option Nat) (i_1 : Int32) (K : Int32 → Hp → Prop) : Prop :=
gI h t_0 2 7 fun i1 =>
((¬ (i1 = 0) → ((i_1 = 0 → gI h t_0 2 7 fun i8 =>
K i8 h) ∧
(¬ (i_1 = 0) → gI h t_0 2 8 fun i13 =>
K i13 h))) ∧
(i1 = 0 → K (-1015 : Int32) h))
theorem m_X2_reason {G : Gt} {h : Hp} {a0 : Nat} {i_1 : Int32} {K : Int32 → Hp → Prop} (hG : Base G) (hf : f_X2_reason G h (some a0) i_1 K) : MM G Y_X2_reason cX2_reason 2 0 0 [.ref a0, .int i_1] h (kI K) xN := by
  refine mm_of hG (by decide +kernel) rfl (ac_c rfl (ac_c rfl ac_nil)) (Nat.le_of_ble_eq_true rfl) (fun E _ _ => ?_)
  show V G E Y_X2_reason cX2_reason 2 (QM G E (kI K) xN) h 0 0 0 [(0, .ref a0), (1, .int i_1)] []
  unfold f_X2_reason at hf
  refine v_qload_n (r := (some a0)) (i := 0) dX2_reason_0 rfl rfl ?_
  replace hf := gI_e hf
  obtain ⟨w2, fs3, i1, hh4, hk5, hf⟩ := hf
  refine v_getf (T := TX2) (ci := 2) 7 dX2_reason_1 q2495 rfl in_X2 (Nat.le_of_ble_eq_true rfl) (Or.inl rfl) hh4 hk5 ?_
  refine v_if_ne 13 dX2_reason_4 (by decide) (fun c6 => ?_) (fun c6 => ?_)
  · replace hf := hf.1 c6
    refine v_iload_n (i := 1) dX2_reason_13 rfl rfl ?_
    refine v_if_eq 24 dX2_reason_14 (by decide) (fun c7 => ?_) (fun c7 => ?_)
    · replace hf := hf.1 c7
      refine v_qload_n (r := (some a0)) (i := 0) dX2_reason_24 rfl rfl ?_
      replace hf := gI_e hf
      obtain ⟨w9, fs10, i8, hh11, hk12, hf⟩ := hf
      refine v_getf (T := TX2) (ci := 2) 7 dX2_reason_25 q2495 rfl in_X2 (Nat.le_of_ble_eq_true rfl) (Or.inl rfl) hh11 hk12 ?_
      exact v_iret dX2_reason_28 rfl ⟨_, rfl, hf⟩
    · replace hf := hf.2 c7
      refine v_qload_n (r := (some a0)) (i := 0) dX2_reason_17 rfl rfl ?_
      replace hf := gI_e hf
      obtain ⟨w14, fs15, i13, hh16, hk17, hf⟩ := hf
      refine v_getf (T := TX2) (ci := 2) 8 dX2_reason_18 q2496 rfl in_X2 (Nat.le_of_ble_eq_true rfl) (Or.inl rfl) hh16 hk17 ?_
      refine v_goto 28 dX2_reason_21 (by decide) ?_
      exact v_iret dX2_reason_28 rfl ⟨_, rfl, hf⟩
  · replace hf := hf.2 c6
    refine v_sipush (v := -1015) dX2_reason_7 (by decide) ?_
    refine v_goto 28 dX2_reason_10 (by decide) ?_
    exact v_iret dX2_reason_28 rfl ⟨_, rfl, hf⟩
abbrev Y_X2_lit : Yt := (yX2_lit, some (.int), 2, 61, [])
def g_X2_lit_0 (G : Gt) (E : Ev) (h : Hp) (k n : Nat) (a0 : Nat) (K : Int32 → Hp → Prop) : Prop :=
V G E Y_X2_lit cX2_lit 3 (QM G E (kI K) xN) h k n 4 [(0, .ref a0), (1, .int (0 : Int32)), (2, .int (0 : Int32))] []
theorem s_X2_lit_0 {G : Gt} {E : Ev} {h : Hp} {k0 n0 : Nat} {a0 : Nat} {K : Int32 → Hp → Prop} (hG : Base G) (hA : 0 ≤ k0) (hB : 0 ≤ n0) (hf : g_X2_lit_0 G E h (k0 - 0) (n0 - 0) a0 K) : V G E Y_X2_lit cX2_lit 3 (QM G E (kI K) xN) h k0 n0 0 [(0, .ref a0)] [] := by
  obtain ⟨k, hk9⟩ : ∃ z, z = k0 - 0 := ⟨_, rfl⟩
  obtain ⟨n, hn9⟩ : ∃ z, z = n0 - 0 := ⟨_, rfl⟩
  rw [← hk9, ← hn9] at hf
  refine V.weak (k' := k + 0) (n' := n + 0) ?_ (by omega) (by omega)
  unfold g_X2_lit_0 at hf
  refine v_iconst (v := 0) dX2_lit_0 (by decide) ?_
  refine v_istore_n (i := 1) (lv' := [(0, .ref a0), (1, .int (0 : Int32))]) dX2_lit_1 rfl (Nat.le_of_ble_eq_true rfl) rfl rfl ?_
  refine v_iconst (v := 0) dX2_lit_2 (by decide) ?_
  refine v_istore_n (i := 2) (lv' := [(0, .ref a0), (1, .int (0 : Int32)), (2, .int (0 : Int32))]) dX2_lit_3 rfl (Nat.le_of_ble_eq_true rfl) rfl rfl ?_
  exact V.weak hf (by omega) (by omega)
def g_X2_lit_4 (G : Gt) (E : Ev) (h : Hp) (k n : Nat) (a0 : Nat) (i_1 : Int32) (i_2 : Int32) (K : Int32 → Hp → Prop) : Prop :=
gR h (some a0) 2 0 fun r1 =>
aI h r1 0 (0 : Int32) fun i12 =>
((i12 ≤ i_2 → K i_1 h) ∧
(¬ (i12 ≤ i_2) → rv h (some a0) 2 (f_X2_oilOf G h (some a0) i_2 (fun i18 h17 =>
((i18 ≤ 0 → V G E Y_X2_lit cX2_lit 3 (QM G E (kI K) xN) h17 k n 4 [(0, .ref a0), (1, .int (i_1 + (0 : Int32))), (2, .int (i_2 + (1 : Int32)))] []) ∧
(¬ (i18 ≤ 0) → V G E Y_X2_lit cX2_lit 3 (QM G E (kI K) xN) h17 k n 4 [(0, .ref a0), (1, .int (i_1 + (1 : Int32))), (2, .int (i_2 + (1 : Int32)))] []))))))
theorem s_X2_lit_4 {G : Gt} {E : Ev} {h : Hp} {k0 n0 : Nat} {a0 : Nat} {i_1 : Int32} {i_2 : Int32} {K : Int32 → Hp → Prop} (hG : Base G) (hA : 0 ≤ k0) (hB : 0 ≤ n0) (hf : g_X2_lit_4 G E h (k0 - 0) (n0 - 0) a0 i_1 i_2 K) : V G E Y_X2_lit cX2_lit 3 (QM G E (kI K) xN) h k0 n0 4 [(0, .ref a0), (1, .int i_1), (2, .int i_2)] [] := by
  obtain ⟨k, hk9⟩ : ∃ z, z = k0 - 0 := ⟨_, rfl⟩
  obtain ⟨n, hn9⟩ : ∃ z, z = n0 - 0 := ⟨_, rfl⟩
  rw [← hk9, ← hn9] at hf
  refine V.weak (k' := k + 0) (n' := n + 0) ?_ (by omega) (by omega)
  unfold g_X2_lit_4 at hf
  refine v_iload_n (i := 2) dX2_lit_4 rfl rfl ?_
  refine v_aload_n (i := 0) dX2_lit_5 rfl rfl ?_
  replace hf := gR_e hf
  obtain ⟨w2, fs3, r1, hh4, hk5, hf⟩ := hf
  refine v_getf (T := TX2) (ci := 2) 0 dX2_lit_6 q2488 rfl in_X2 (Nat.le_of_ble_eq_true rfl) (Or.inl rfl) hh4 hk5 ?_
  refine v_iconst (v := 0) dX2_lit_9 (by decide) ?_
  obtain ⟨a6, rfl⟩ := aI_s hf
  replace hf := aI_e hf
  obtain ⟨w7, N8, f9, hh10, hi11, i12, ei12, hf⟩ := hf
  refine v_iald dX2_lit_10 hh10 hi11 ?_
  rw [← ei12]
  refine v_icmp_ge 36 dX2_lit_11 (by decide) (fun c13 => ?_) (fun c13 => ?_)
  · replace hf := hf.1 c13
    refine v_iload_n (i := 1) dX2_lit_36 rfl rfl ?_
    exact v_iret dX2_lit_37 rfl ⟨_, rfl, hf⟩
  · replace hf := hf.2 c13
    refine v_iload_n (i := 1) dX2_lit_14 rfl rfl ?_
    refine v_aload_n (i := 0) dX2_lit_15 rfl rfl ?_
    refine v_iload_n (i := 2) dX2_lit_16 rfl rfl ?_
    replace hf := rv_e hf
    obtain ⟨w14, fs15, hh16, hf⟩ := hf
    refine V.addK0 ?_
    refine V.addN0 ?_
    refine v_callV (mc := 0) (ms := 0) 1 dX2_lit_17 (m_X2_oilOf hG hf) rfl hh16 rfl (lw_V q2594 q2596 qs52 q98 q2597) rfl (by decide +kernel) (by decide) rfl (cat_len (Nat.le_of_ble_eq_true rfl)) (kk_I fun i18 h17 hg => ?_) (fun _ _ _ hx => hx.elim)
    replace hf := hg
    clear hg
    refine v_if_le 27 dX2_lit_20 (by decide) (fun c19 => ?_) (fun c19 => ?_)
    · replace hf := hf.1 c19
      refine v_iconst (v := 0) dX2_lit_27 (by decide) ?_
      refine v_iadd dX2_lit_28 ?_
      refine v_istore_n (i := 1) (lv' := [(0, .ref a0), (1, .int (i_1 + (0 : Int32))), (2, .int i_2)]) dX2_lit_29 rfl (Nat.le_of_ble_eq_true rfl) rfl rfl ?_
      refine v_iinc (i := 2) (v := i_2 + (1 : Int32)) (lv' := [(0, .ref a0), (1, .int (i_1 + (0 : Int32))), (2, .int (i_2 + (1 : Int32)))]) dX2_lit_30 rfl rfl (Nat.le_of_ble_eq_true rfl) rfl rfl ?_
      refine v_goto 4 dX2_lit_33 (by decide) ?_
      exact V.weak hf (by omega) (by omega)
    · replace hf := hf.2 c19
      refine v_iconst (v := 1) dX2_lit_23 (by decide) ?_
      refine v_goto 28 dX2_lit_24 (by decide) ?_
      refine v_iadd dX2_lit_28 ?_
      refine v_istore_n (i := 1) (lv' := [(0, .ref a0), (1, .int (i_1 + (1 : Int32))), (2, .int i_2)]) dX2_lit_29 rfl (Nat.le_of_ble_eq_true rfl) rfl rfl ?_
      refine v_iinc (i := 2) (v := i_2 + (1 : Int32)) (lv' := [(0, .ref a0), (1, .int (i_1 + (1 : Int32))), (2, .int (i_2 + (1 : Int32)))]) dX2_lit_30 rfl rfl (Nat.le_of_ble_eq_true rfl) rfl rfl ?_
      refine v_goto 4 dX2_lit_33 (by decide) ?_
      exact V.weak hf (by omega) (by omega)
theorem b_X2_lit {G : Gt} {h : Hp} {mc ms : Nat} {a0 : Nat} {K : Int32 → Hp → Prop} (hG : Base G) (hf : ∀ E : Ev, V G E Y_X2_lit cX2_lit 3 (QM G E (kI K) xN) h mc ms 0 [(0, .ref a0)] []) : MM G Y_X2_lit cX2_lit 3 mc ms [.ref a0] h (kI K) xN := mm_of hG (by decide +kernel) rfl (ac_c rfl ac_nil) (Nat.le_of_ble_eq_true rfl) (fun E _ _ => hf E)
abbrev Y_X2_shut : Yt := (yX2_shut, some (.int), 2, 62, [])
def g_X2_shut_0 (G : Gt) (E : Ev) (h : Hp) (k n : Nat) (a0 : Nat) (K : Int32 → Hp → Prop) : Prop :=
V G E Y_X2_shut cX2_shut 3 (QM G E (kI K) xN) h k n 4 [(0, .ref a0), (1, .int (0 : Int32)), (2, .int (0 : Int32))] []
theorem s_X2_shut_0 {G : Gt} {E : Ev} {h : Hp} {k0 n0 : Nat} {a0 : Nat} {K : Int32 → Hp → Prop} (hG : Base G) (hA : 0 ≤ k0) (hB : 0 ≤ n0) (hf : g_X2_shut_0 G E h (k0 - 0) (n0 - 0) a0 K) : V G E Y_X2_shut cX2_shut 3 (QM G E (kI K) xN) h k0 n0 0 [(0, .ref a0)] [] := by
  obtain ⟨k, hk9⟩ : ∃ z, z = k0 - 0 := ⟨_, rfl⟩
  obtain ⟨n, hn9⟩ : ∃ z, z = n0 - 0 := ⟨_, rfl⟩
  rw [← hk9, ← hn9] at hf
  refine V.weak (k' := k + 0) (n' := n + 0) ?_ (by omega) (by omega)
  unfold g_X2_shut_0 at hf
  refine v_iconst (v := 0) dX2_shut_0 (by decide) ?_
  refine v_istore_n (i := 1) (lv' := [(0, .ref a0), (1, .int (0 : Int32))]) dX2_shut_1 rfl (Nat.le_of_ble_eq_true rfl) rfl rfl ?_
  refine v_iconst (v := 0) dX2_shut_2 (by decide) ?_
  refine v_istore_n (i := 2) (lv' := [(0, .ref a0), (1, .int (0 : Int32)), (2, .int (0 : Int32))]) dX2_shut_3 rfl (Nat.le_of_ble_eq_true rfl) rfl rfl ?_
  exact V.weak hf (by omega) (by omega)
def g_X2_shut_4 (G : Gt) (E : Ev) (h : Hp) (k n : Nat) (a0 : Nat) (i_1 : Int32) (i_2 : Int32) (K : Int32 → Hp → Prop) : Prop :=
gR h (some a0) 2 0 fun r1 =>
aI h r1 0 (1 : Int32) fun i12 =>
((i12 ≤ i_2 → K i_1 h) ∧
(¬ (i12 ≤ i_2) → rv h (some a0) 2 (f_X2_of G h (some a0) i_2 (4 : Int32) (fun i18 h17 =>
V G E Y_X2_shut cX2_shut 3 (QM G E (kI K) xN) h17 k n 4 [(0, .ref a0), (1, .int (i_1 + i18)), (2, .int (i_2 + (1 : Int32)))] []))))
theorem s_X2_shut_4 {G : Gt} {E : Ev} {h : Hp} {k0 n0 : Nat} {a0 : Nat} {i_1 : Int32} {i_2 : Int32} {K : Int32 → Hp → Prop} (hG : Base G) (hA : 0 ≤ k0) (hB : 0 ≤ n0) (hf : g_X2_shut_4 G E h (k0 - 0) (n0 - 0) a0 i_1 i_2 K) : V G E Y_X2_shut cX2_shut 3 (QM G E (kI K) xN) h k0 n0 4 [(0, .ref a0), (1, .int i_1), (2, .int i_2)] [] := by
  obtain ⟨k, hk9⟩ : ∃ z, z = k0 - 0 := ⟨_, rfl⟩
  obtain ⟨n, hn9⟩ : ∃ z, z = n0 - 0 := ⟨_, rfl⟩
  rw [← hk9, ← hn9] at hf
  refine V.weak (k' := k + 0) (n' := n + 0) ?_ (by omega) (by omega)
  unfold g_X2_shut_4 at hf
  refine v_iload_n (i := 2) dX2_shut_4 rfl rfl ?_
  refine v_aload_n (i := 0) dX2_shut_5 rfl rfl ?_
  replace hf := gR_e hf
  obtain ⟨w2, fs3, r1, hh4, hk5, hf⟩ := hf
  refine v_getf (T := TX2) (ci := 2) 0 dX2_shut_6 q2488 rfl in_X2 (Nat.le_of_ble_eq_true rfl) (Or.inl rfl) hh4 hk5 ?_
  refine v_iconst (v := 1) dX2_shut_9 (by decide) ?_
  obtain ⟨a6, rfl⟩ := aI_s hf
  replace hf := aI_e hf
  obtain ⟨w7, N8, f9, hh10, hi11, i12, ei12, hf⟩ := hf
  refine v_iald dX2_shut_10 hh10 hi11 ?_
  rw [← ei12]
  refine v_icmp_ge 29 dX2_shut_11 (by decide) (fun c13 => ?_) (fun c13 => ?_)
  · replace hf := hf.1 c13
    refine v_iload_n (i := 1) dX2_shut_29 rfl rfl ?_
    exact v_iret dX2_shut_30 rfl ⟨_, rfl, hf⟩
  · replace hf := hf.2 c13
    refine v_iload_n (i := 1) dX2_shut_14 rfl rfl ?_
    refine v_aload_n (i := 0) dX2_shut_15 rfl rfl ?_
    refine v_iload_n (i := 2) dX2_shut_16 rfl rfl ?_
    refine v_iconst (v := 4) dX2_shut_17 (by decide) ?_
    replace hf := rv_e hf
    obtain ⟨w14, fs15, hh16, hf⟩ := hf
    refine V.addK0 ?_
    refine V.addN0 ?_
    refine v_callV (mc := 0) (ms := 0) 2 dX2_shut_18 (m_X2_of hG hf) rfl hh16 rfl (lw_V q2573 q2575 qs51 q98 q2576) rfl (by decide +kernel) (by decide) rfl (cat_len (Nat.le_of_ble_eq_true rfl)) (kk_I fun i18 h17 hg => ?_) (fun _ _ _ hx => hx.elim)
    replace hf := hg
    clear hg
    refine v_iadd dX2_shut_21 ?_
    refine v_istore_n (i := 1) (lv' := [(0, .ref a0), (1, .int (i_1 + i18)), (2, .int i_2)]) dX2_shut_22 rfl (Nat.le_of_ble_eq_true rfl) rfl rfl ?_
    refine v_iinc (i := 2) (v := i_2 + (1 : Int32)) (lv' := [(0, .ref a0), (1, .int (i_1 + i18)), (2, .int (i_2 + (1 : Int32)))]) dX2_shut_23 rfl rfl (Nat.le_of_ble_eq_true rfl) rfl rfl ?_
    refine v_goto 4 dX2_shut_26 (by decide) ?_
    exact V.weak hf (by omega) (by omega)
theorem b_X2_shut {G : Gt} {h : Hp} {mc ms : Nat} {a0 : Nat} {K : Int32 → Hp → Prop} (hG : Base G) (hf : ∀ E : Ev, V G E Y_X2_shut cX2_shut 3 (QM G E (kI K) xN) h mc ms 0 [(0, .ref a0)] []) : MM G Y_X2_shut cX2_shut 3 mc ms [.ref a0] h (kI K) xN := mm_of hG (by decide +kernel) rfl (ac_c rfl ac_nil) (Nat.le_of_ble_eq_true rfl) (fun E _ _ => hf E)
abbrev Y_X2_lying : Yt := (yX2_lying, some (.int), 1, 40, [])
def g_X2_lying_0 (G : Gt) (E : Ev) (h : Hp) (k n : Nat) (a0 : Nat) (K : Int32 → Hp → Prop) : Prop :=
V G E Y_X2_lying cX2_lying 4 (QM G E (kI K) xN) h k n 4 [(0, .ref a0), (1, .int (0 : Int32)), (2, .int (0 : Int32))] []
theorem s_X2_lying_0 {G : Gt} {E : Ev} {h : Hp} {k0 n0 : Nat} {a0 : Nat} {K : Int32 → Hp → Prop} (hG : Base G) (hA : 0 ≤ k0) (hB : 0 ≤ n0) (hf : g_X2_lying_0 G E h (k0 - 0) (n0 - 0) a0 K) : V G E Y_X2_lying cX2_lying 4 (QM G E (kI K) xN) h k0 n0 0 [(0, .ref a0)] [] := by
  obtain ⟨k, hk9⟩ : ∃ z, z = k0 - 0 := ⟨_, rfl⟩
  obtain ⟨n, hn9⟩ : ∃ z, z = n0 - 0 := ⟨_, rfl⟩
  rw [← hk9, ← hn9] at hf
  refine V.weak (k' := k + 0) (n' := n + 0) ?_ (by omega) (by omega)
  unfold g_X2_lying_0 at hf
  refine v_iconst (v := 0) dX2_lying_0 (by decide) ?_
  refine v_istore_n (i := 1) (lv' := [(0, .ref a0), (1, .int (0 : Int32))]) dX2_lying_1 rfl (Nat.le_of_ble_eq_true rfl) rfl rfl ?_
  refine v_iconst (v := 0) dX2_lying_2 (by decide) ?_
  refine v_istore_n (i := 2) (lv' := [(0, .ref a0), (1, .int (0 : Int32)), (2, .int (0 : Int32))]) dX2_lying_3 rfl (Nat.le_of_ble_eq_true rfl) rfl rfl ?_
  exact V.weak hf (by omega) (by omega)
def g_X2_lying_4 (G : Gt) (E : Ev) (h : Hp) (k n : Nat) (a0 : Nat) (i_1 : Int32) (i_2 : Int32) (K : Int32 → Hp → Prop) : Prop :=
gR h (some a0) 2 0 fun r1 =>
aI h r1 0 (0 : Int32) fun i12 =>
((i12 ≤ i_2 → K i_1 h) ∧
(¬ (i12 ≤ i_2) → V G E Y_X2_lying cX2_lying 4 (QM G E (kI K) xN) h k n 16 [(0, .ref a0), (1, .int i_1), (2, .int i_2), (3, .int (0 : Int32))] []))
theorem s_X2_lying_4 {G : Gt} {E : Ev} {h : Hp} {k0 n0 : Nat} {a0 : Nat} {i_1 : Int32} {i_2 : Int32} {K : Int32 → Hp → Prop} (hG : Base G) (hA : 0 ≤ k0) (hB : 0 ≤ n0) (hf : g_X2_lying_4 G E h (k0 - 0) (n0 - 0) a0 i_1 i_2 K) : V G E Y_X2_lying cX2_lying 4 (QM G E (kI K) xN) h k0 n0 4 [(0, .ref a0), (1, .int i_1), (2, .int i_2)] [] := by
  obtain ⟨k, hk9⟩ : ∃ z, z = k0 - 0 := ⟨_, rfl⟩
  obtain ⟨n, hn9⟩ : ∃ z, z = n0 - 0 := ⟨_, rfl⟩
  rw [← hk9, ← hn9] at hf
  refine V.weak (k' := k + 0) (n' := n + 0) ?_ (by omega) (by omega)
  unfold g_X2_lying_4 at hf
  refine v_iload_n (i := 2) dX2_lying_4 rfl rfl ?_
  refine v_aload_n (i := 0) dX2_lying_5 rfl rfl ?_
  replace hf := gR_e hf
  obtain ⟨w2, fs3, r1, hh4, hk5, hf⟩ := hf
  refine v_getf (T := TX2) (ci := 2) 0 dX2_lying_6 q2488 rfl in_X2 (Nat.le_of_ble_eq_true rfl) (Or.inl rfl) hh4 hk5 ?_
  refine v_iconst (v := 0) dX2_lying_9 (by decide) ?_
  obtain ⟨a6, rfl⟩ := aI_s hf
  replace hf := aI_e hf
  obtain ⟨w7, N8, f9, hh10, hi11, i12, ei12, hf⟩ := hf
  refine v_iald dX2_lying_10 hh10 hi11 ?_
  rw [← ei12]
  refine v_icmp_ge 51 dX2_lying_11 (by decide) (fun c13 => ?_) (fun c13 => ?_)
  · replace hf := hf.1 c13
    refine v_iload_n (i := 1) dX2_lying_51 rfl rfl ?_
    exact v_iret dX2_lying_52 rfl ⟨_, rfl, hf⟩
  · replace hf := hf.2 c13
    refine v_iconst (v := 0) dX2_lying_14 (by decide) ?_
    refine v_istore_n (i := 3) (lv' := [(0, .ref a0), (1, .int i_1), (2, .int i_2), (3, .int (0 : Int32))]) dX2_lying_15 rfl (Nat.le_of_ble_eq_true rfl) rfl rfl ?_
    exact V.weak hf (by omega) (by omega)
def g_X2_lying_16 (G : Gt) (E : Ev) (h : Hp) (k n : Nat) (a0 : Nat) (i_1 : Int32) (i_2 : Int32) (i_3 : Int32) (K : Int32 → Hp → Prop) : Prop :=
(((3 : Int32) ≤ i_3 → V G E Y_X2_lying cX2_lying 4 (QM G E (kI K) xN) h k n 4 [(0, .ref a0), (1, .int i_1), (2, .int (i_2 + (1 : Int32)))] []) ∧
(¬ ((3 : Int32) ≤ i_3) → gR h (some a0) 2 0 fun r2 =>
aI h r2 0 ((((10 : Int32) + ((4 : Int32) * i_2)) + (1 : Int32)) + i_3) fun i13 =>
V G E Y_X2_lying cX2_lying 4 (QM G E (kI K) xN) h k n 16 [(0, .ref a0), (1, .int (i_1 + i13)), (2, .int i_2), (3, .int (i_3 + (1 : Int32)))] []))
theorem s_X2_lying_16 {G : Gt} {E : Ev} {h : Hp} {k0 n0 : Nat} {a0 : Nat} {i_1 : Int32} {i_2 : Int32} {i_3 : Int32} {K : Int32 → Hp → Prop} (hG : Base G) (hA : 0 ≤ k0) (hB : 0 ≤ n0) (hf : g_X2_lying_16 G E h (k0 - 0) (n0 - 0) a0 i_1 i_2 i_3 K) : V G E Y_X2_lying cX2_lying 4 (QM G E (kI K) xN) h k0 n0 16 [(0, .ref a0), (1, .int i_1), (2, .int i_2), (3, .int i_3)] [] := by
  obtain ⟨k, hk9⟩ : ∃ z, z = k0 - 0 := ⟨_, rfl⟩
  obtain ⟨n, hn9⟩ : ∃ z, z = n0 - 0 := ⟨_, rfl⟩
  rw [← hk9, ← hn9] at hf
  refine V.weak (k' := k + 0) (n' := n + 0) ?_ (by omega) (by omega)
  unfold g_X2_lying_16 at hf
  refine v_iload_n (i := 3) dX2_lying_16 rfl rfl ?_
  refine v_iconst (v := 3) dX2_lying_17 (by decide) ?_
  refine v_icmp_ge 45 dX2_lying_18 (by decide) (fun c1 => ?_) (fun c1 => ?_)
  · replace hf := hf.1 c1
    refine v_iinc (i := 2) (v := i_2 + (1 : Int32)) (lv' := [(0, .ref a0), (1, .int i_1), (2, .int (i_2 + (1 : Int32))), (3, .int i_3)]) dX2_lying_45 rfl rfl (Nat.le_of_ble_eq_true rfl) rfl rfl ?_
    refine v_goto 4 dX2_lying_48 (by decide) ?_
    refine V.lp (lv' := [(0, .ref a0), (1, .int i_1), (2, .int (i_2 + (1 : Int32)))]) [0, 1, 2] rfl ?_
    exact V.weak hf (by omega) (by omega)
  · replace hf := hf.2 c1
    refine v_iload_n (i := 1) dX2_lying_21 rfl rfl ?_
    refine v_aload_n (i := 0) dX2_lying_22 rfl rfl ?_
    replace hf := gR_e hf
    obtain ⟨w3, fs4, r2, hh5, hk6, hf⟩ := hf
    refine v_getf (T := TX2) (ci := 2) 0 dX2_lying_23 q2488 rfl in_X2 (Nat.le_of_ble_eq_true rfl) (Or.inl rfl) hh5 hk6 ?_
    refine v_bipush (v := 10) dX2_lying_26 (by decide) ?_
    refine v_iconst (v := 4) dX2_lying_28 (by decide) ?_
    refine v_iload_n (i := 2) dX2_lying_29 rfl rfl ?_
    refine v_imul dX2_lying_30 ?_
    refine v_iadd dX2_lying_31 ?_
    refine v_iconst (v := 1) dX2_lying_32 (by decide) ?_
    refine v_iadd dX2_lying_33 ?_
    refine v_iload_n (i := 3) dX2_lying_34 rfl rfl ?_
    refine v_iadd dX2_lying_35 ?_
    obtain ⟨a7, rfl⟩ := aI_s hf
    replace hf := aI_e hf
    obtain ⟨w8, N9, f10, hh11, hi12, i13, ei13, hf⟩ := hf
    refine v_iald dX2_lying_36 hh11 hi12 ?_
    rw [← ei13]
    refine v_iadd dX2_lying_37 ?_
    refine v_istore_n (i := 1) (lv' := [(0, .ref a0), (1, .int (i_1 + i13)), (2, .int i_2), (3, .int i_3)]) dX2_lying_38 rfl (Nat.le_of_ble_eq_true rfl) rfl rfl ?_
    refine v_iinc (i := 3) (v := i_3 + (1 : Int32)) (lv' := [(0, .ref a0), (1, .int (i_1 + i13)), (2, .int i_2), (3, .int (i_3 + (1 : Int32)))]) dX2_lying_39 rfl rfl (Nat.le_of_ble_eq_true rfl) rfl rfl ?_
    refine v_goto 16 dX2_lying_42 (by decide) ?_
    exact V.weak hf (by omega) (by omega)
theorem b_X2_lying {G : Gt} {h : Hp} {mc ms : Nat} {a0 : Nat} {K : Int32 → Hp → Prop} (hG : Base G) (hf : ∀ E : Ev, V G E Y_X2_lying cX2_lying 4 (QM G E (kI K) xN) h mc ms 0 [(0, .ref a0)] []) : MM G Y_X2_lying cX2_lying 4 mc ms [.ref a0] h (kI K) xN := mm_of hG (by decide +kernel) rfl (ac_c rfl ac_nil) (Nat.le_of_ble_eq_true rfl) (fun E _ _ => hf E)
abbrev Y_X2_inHand : Yt := (yX2_inHand, some (.int), 1, 40, [])
def f_X2_inHand (G : Gt) (h : Hp) (t_0 : Option Nat) (K : Int32 → Hp → Prop) : Prop :=
gR h t_0 2 0 fun r1 =>
aI h r1 0 (4 : Int32) fun i12 =>
gR h t_0 2 0 fun r13 =>
aI h r13 0 (5 : Int32) fun i24 =>
gR h t_0 2 0 fun r25 =>
aI h r25 0 (6 : Int32) fun i36 =>
K ((i12 + i24) + i36) h
theorem m_X2_inHand {G : Gt} {h : Hp} {a0 : Nat} {K : Int32 → Hp → Prop} (hG : Base G) (hf : f_X2_inHand G h (some a0) K) : MM G Y_X2_inHand cX2_inHand 1 0 0 [.ref a0] h (kI K) xN := by
  refine mm_of hG (by decide +kernel) rfl (ac_c rfl ac_nil) (Nat.le_of_ble_eq_true rfl) (fun E _ _ => ?_)
  show V G E Y_X2_inHand cX2_inHand 1 (QM G E (kI K) xN) h 0 0 0 [(0, .ref a0)] []
  unfold f_X2_inHand at hf
  refine v_qload_n (r := (some a0)) (i := 0) dX2_inHand_0 rfl rfl ?_
  replace hf := gR_e hf
  obtain ⟨w2, fs3, r1, hh4, hk5, hf⟩ := hf
  refine v_getf (T := TX2) (ci := 2) 0 dX2_inHand_1 q2488 rfl in_X2 (Nat.le_of_ble_eq_true rfl) (Or.inl rfl) hh4 hk5 ?_
  refine v_iconst (v := 4) dX2_inHand_4 (by decide) ?_
  obtain ⟨a6, rfl⟩ := aI_s hf
  replace hf := aI_e hf
  obtain ⟨w7, N8, f9, hh10, hi11, i12, ei12, hf⟩ := hf
  refine v_iald dX2_inHand_5 hh10 hi11 ?_
  rw [← ei12]
  refine v_qload_n (r := (some a0)) (i := 0) dX2_inHand_6 rfl rfl ?_
  replace hf := gR_e hf
  obtain ⟨w14, fs15, r13, hh16, hk17, hf⟩ := hf
  refine v_getf (T := TX2) (ci := 2) 0 dX2_inHand_7 q2488 rfl in_X2 (Nat.le_of_ble_eq_true rfl) (Or.inl rfl) hh16 hk17 ?_
  refine v_iconst (v := 5) dX2_inHand_10 (by decide) ?_
  obtain ⟨a18, rfl⟩ := aI_s hf
  replace hf := aI_e hf
  obtain ⟨w19, N20, f21, hh22, hi23, i24, ei24, hf⟩ := hf
  refine v_iald dX2_inHand_11 hh22 hi23 ?_
  rw [← ei24]
  refine v_iadd dX2_inHand_12 ?_
  refine v_qload_n (r := (some a0)) (i := 0) dX2_inHand_13 rfl rfl ?_
  replace hf := gR_e hf
  obtain ⟨w26, fs27, r25, hh28, hk29, hf⟩ := hf
  refine v_getf (T := TX2) (ci := 2) 0 dX2_inHand_14 q2488 rfl in_X2 (Nat.le_of_ble_eq_true rfl) (Or.inl rfl) hh28 hk29 ?_
  refine v_bipush (v := 6) dX2_inHand_17 (by decide) ?_
  obtain ⟨a30, rfl⟩ := aI_s hf
  replace hf := aI_e hf
  obtain ⟨w31, N32, f33, hh34, hi35, i36, ei36, hf⟩ := hf
  refine v_iald dX2_inHand_19 hh34 hi35 ?_
  rw [← ei36]
  refine v_iadd dX2_inHand_20 ?_
  exact v_iret dX2_inHand_21 rfl ⟨_, rfl, hf⟩
abbrev Y_X2_allOil : Yt := (yX2_allOil, some (.int), 2, 61, [])
def g_X2_allOil_0 (G : Gt) (E : Ev) (h : Hp) (k n : Nat) (a0 : Nat) (K : Int32 → Hp → Prop) : Prop :=
V G E Y_X2_allOil cX2_allOil 3 (QM G E (kI K) xN) h k n 4 [(0, .ref a0), (1, .int (0 : Int32)), (2, .int (0 : Int32))] []
theorem s_X2_allOil_0 {G : Gt} {E : Ev} {h : Hp} {k0 n0 : Nat} {a0 : Nat} {K : Int32 → Hp → Prop} (hG : Base G) (hA : 0 ≤ k0) (hB : 0 ≤ n0) (hf : g_X2_allOil_0 G E h (k0 - 0) (n0 - 0) a0 K) : V G E Y_X2_allOil cX2_allOil 3 (QM G E (kI K) xN) h k0 n0 0 [(0, .ref a0)] [] := by
  obtain ⟨k, hk9⟩ : ∃ z, z = k0 - 0 := ⟨_, rfl⟩
  obtain ⟨n, hn9⟩ : ∃ z, z = n0 - 0 := ⟨_, rfl⟩
  rw [← hk9, ← hn9] at hf
  refine V.weak (k' := k + 0) (n' := n + 0) ?_ (by omega) (by omega)
  unfold g_X2_allOil_0 at hf
  refine v_iconst (v := 0) dX2_allOil_0 (by decide) ?_
  refine v_istore_n (i := 1) (lv' := [(0, .ref a0), (1, .int (0 : Int32))]) dX2_allOil_1 rfl (Nat.le_of_ble_eq_true rfl) rfl rfl ?_
  refine v_iconst (v := 0) dX2_allOil_2 (by decide) ?_
  refine v_istore_n (i := 2) (lv' := [(0, .ref a0), (1, .int (0 : Int32)), (2, .int (0 : Int32))]) dX2_allOil_3 rfl (Nat.le_of_ble_eq_true rfl) rfl rfl ?_
  exact V.weak hf (by omega) (by omega)
def g_X2_allOil_4 (G : Gt) (E : Ev) (h : Hp) (k n : Nat) (a0 : Nat) (i_1 : Int32) (i_2 : Int32) (K : Int32 → Hp → Prop) : Prop :=
gR h (some a0) 2 0 fun r1 =>
aI h r1 0 (0 : Int32) fun i12 =>
((i12 ≤ i_2 → K i_1 h) ∧
(¬ (i12 ≤ i_2) → rv h (some a0) 2 (f_X2_oilOf G h (some a0) i_2 (fun i18 h17 =>
V G E Y_X2_allOil cX2_allOil 3 (QM G E (kI K) xN) h17 k n 4 [(0, .ref a0), (1, .int (i_1 + i18)), (2, .int (i_2 + (1 : Int32)))] []))))
theorem s_X2_allOil_4 {G : Gt} {E : Ev} {h : Hp} {k0 n0 : Nat} {a0 : Nat} {i_1 : Int32} {i_2 : Int32} {K : Int32 → Hp → Prop} (hG : Base G) (hA : 0 ≤ k0) (hB : 0 ≤ n0) (hf : g_X2_allOil_4 G E h (k0 - 0) (n0 - 0) a0 i_1 i_2 K) : V G E Y_X2_allOil cX2_allOil 3 (QM G E (kI K) xN) h k0 n0 4 [(0, .ref a0), (1, .int i_1), (2, .int i_2)] [] := by
  obtain ⟨k, hk9⟩ : ∃ z, z = k0 - 0 := ⟨_, rfl⟩
  obtain ⟨n, hn9⟩ : ∃ z, z = n0 - 0 := ⟨_, rfl⟩
  rw [← hk9, ← hn9] at hf
  refine V.weak (k' := k + 0) (n' := n + 0) ?_ (by omega) (by omega)
  unfold g_X2_allOil_4 at hf
  refine v_iload_n (i := 2) dX2_allOil_4 rfl rfl ?_
  refine v_aload_n (i := 0) dX2_allOil_5 rfl rfl ?_
  replace hf := gR_e hf
  obtain ⟨w2, fs3, r1, hh4, hk5, hf⟩ := hf
  refine v_getf (T := TX2) (ci := 2) 0 dX2_allOil_6 q2488 rfl in_X2 (Nat.le_of_ble_eq_true rfl) (Or.inl rfl) hh4 hk5 ?_
  refine v_iconst (v := 0) dX2_allOil_9 (by decide) ?_
  obtain ⟨a6, rfl⟩ := aI_s hf
  replace hf := aI_e hf
  obtain ⟨w7, N8, f9, hh10, hi11, i12, ei12, hf⟩ := hf
  refine v_iald dX2_allOil_10 hh10 hi11 ?_
  rw [← ei12]
  refine v_icmp_ge 28 dX2_allOil_11 (by decide) (fun c13 => ?_) (fun c13 => ?_)
  · replace hf := hf.1 c13
    refine v_iload_n (i := 1) dX2_allOil_28 rfl rfl ?_
    exact v_iret dX2_allOil_29 rfl ⟨_, rfl, hf⟩
  · replace hf := hf.2 c13
    refine v_iload_n (i := 1) dX2_allOil_14 rfl rfl ?_
    refine v_aload_n (i := 0) dX2_allOil_15 rfl rfl ?_
    refine v_iload_n (i := 2) dX2_allOil_16 rfl rfl ?_
    replace hf := rv_e hf
    obtain ⟨w14, fs15, hh16, hf⟩ := hf
    refine V.addK0 ?_
    refine V.addN0 ?_
    refine v_callV (mc := 0) (ms := 0) 1 dX2_allOil_17 (m_X2_oilOf hG hf) rfl hh16 rfl (lw_V q2594 q2596 qs52 q98 q2597) rfl (by decide +kernel) (by decide) rfl (cat_len (Nat.le_of_ble_eq_true rfl)) (kk_I fun i18 h17 hg => ?_) (fun _ _ _ hx => hx.elim)
    replace hf := hg
    clear hg
    refine v_iadd dX2_allOil_20 ?_
    refine v_istore_n (i := 1) (lv' := [(0, .ref a0), (1, .int (i_1 + i18)), (2, .int i_2)]) dX2_allOil_21 rfl (Nat.le_of_ble_eq_true rfl) rfl rfl ?_
    refine v_iinc (i := 2) (v := i_2 + (1 : Int32)) (lv' := [(0, .ref a0), (1, .int (i_1 + i18)), (2, .int (i_2 + (1 : Int32)))]) dX2_allOil_22 rfl rfl (Nat.le_of_ble_eq_true rfl) rfl rfl ?_
    refine v_goto 4 dX2_allOil_25 (by decide) ?_
    exact V.weak hf (by omega) (by omega)
theorem b_X2_allOil {G : Gt} {h : Hp} {mc ms : Nat} {a0 : Nat} {K : Int32 → Hp → Prop} (hG : Base G) (hf : ∀ E : Ev, V G E Y_X2_allOil cX2_allOil 3 (QM G E (kI K) xN) h mc ms 0 [(0, .ref a0)] []) : MM G Y_X2_allOil cX2_allOil 3 mc ms [.ref a0] h (kI K) xN := mm_of hG (by decide +kernel) rfl (ac_c rfl ac_nil) (Nat.le_of_ble_eq_true rfl) (fun E _ _ => hf E)
abbrev Y_X2_isBalanced : Yt := (yX2_isBalanced, some (.int), 2, 63, [])
def f_X2_isBalanced (G : Gt) (h : Hp) (k n : Nat) (t_0 : Option Nat) (K : Int32 → Hp → Prop) : Prop :=
gR h t_0 2 0 fun r1 =>
aI h r1 0 (7 : Int32) fun i12 =>
rv h t_0 2 (dI G Y_X2_lying cX2_lying 4 [va_rf t_0] h k n (fun i17 h16 k20 n21 =>
rv h16 t_0 2 (f_X2_inHand G h16 t_0 (fun i26 h25 =>
gR h25 t_0 2 0 fun r27 =>
aI h25 r27 0 (8 : Int32) fun i38 =>
((¬ (i12 = (i17 + i26) + i38) → K (0 : Int32) h25) ∧
(i12 = (i17 + i26) + i38 → K (1 : Int32) h25))))) xN)
theorem m_X2_isBalanced {G : Gt} {h : Hp} {mc ms : Nat} {a0 : Nat} {K : Int32 → Hp → Prop} (hG : Base G) (hA : 0 ≤ mc) (hB : 0 ≤ ms) (hf : f_X2_isBalanced G h (mc - 0) (ms - 0) (some a0) K) : MM G Y_X2_isBalanced cX2_isBalanced 1 mc ms [.ref a0] h (kI K) xN := by
  refine mm_of hG (by decide +kernel) rfl (ac_c rfl ac_nil) (Nat.le_of_ble_eq_true rfl) (fun E _ _ => ?_)
  obtain ⟨k, hk9⟩ : ∃ z, z = mc - 0 := ⟨_, rfl⟩
  obtain ⟨n, hn9⟩ : ∃ z, z = ms - 0 := ⟨_, rfl⟩
  rw [← hk9, ← hn9] at hf
  refine V.weak (k' := k + 0) (n' := n + 0) ?_ (by omega) (by omega)
  show V G E Y_X2_isBalanced cX2_isBalanced 1 (QM G E (kI K) xN) h (k + 0) (n + 0) 0 [(0, .ref a0)] []
  unfold f_X2_isBalanced at hf
  refine v_qload_n (r := (some a0)) (i := 0) dX2_isBalanced_0 rfl rfl ?_
  replace hf := gR_e hf
  obtain ⟨w2, fs3, r1, hh4, hk5, hf⟩ := hf
  refine v_getf (T := TX2) (ci := 2) 0 dX2_isBalanced_1 q2488 rfl in_X2 (Nat.le_of_ble_eq_true rfl) (Or.inl rfl) hh4 hk5 ?_
  refine v_bipush (v := 7) dX2_isBalanced_4 (by decide) ?_
  obtain ⟨a6, rfl⟩ := aI_s hf
  replace hf := aI_e hf
  obtain ⟨w7, N8, f9, hh10, hi11, i12, ei12, hf⟩ := hf
  refine v_iald dX2_isBalanced_6 hh10 hi11 ?_
  rw [← ei12]
  refine v_qload_n (r := (some a0)) (i := 0) dX2_isBalanced_7 rfl rfl ?_
  replace hf := rv_e hf
  obtain ⟨w13, fs14, hh15, hf⟩ := hf
  obtain ⟨mc18, ms19, hkmc18, hnms19, hM⟩ := hf
  refine V.weak (k' := ((k - mc18) + 0) + mc18) (n' := ((n - ms19) + 0) + ms19) ?_ (by omega) (by omega)
  refine v_callV 0 dX2_isBalanced_8 hM rfl hh15 rfl (lw_V q2825 q2827 qs84 q98 q2828) rfl (by decide +kernel) (by decide) rfl (cat_len (Nat.le_of_ble_eq_true rfl)) (kk_I fun i17 h16 hg => ?_) (fun _ _ _ hx => hx.elim)
  have hf := hg
  clear hg
  refine v_qload_n (r := (some a0)) (i := 0) dX2_isBalanced_11 rfl rfl ?_
  replace hf := rv_e hf
  obtain ⟨w22, fs23, hh24, hf⟩ := hf
  refine V.addK0 ?_
  refine V.addN0 ?_
  refine v_callV (mc := 0) (ms := 0) 0 dX2_isBalanced_12 (m_X2_inHand hG hf) rfl hh24 rfl (lw_V q2829 q2831 qs85 q98 q2832) rfl (by decide +kernel) (by decide) rfl (cat_len (Nat.le_of_ble_eq_true rfl)) (kk_I fun i26 h25 hg => ?_) (fun _ _ _ hx => hx.elim)
  replace hf := hg
  clear hg
  refine v_iadd dX2_isBalanced_15 ?_
  refine v_qload_n (r := (some a0)) (i := 0) dX2_isBalanced_16 rfl rfl ?_
  replace hf := gR_e hf
  obtain ⟨w28, fs29, r27, hh30, hk31, hf⟩ := hf
  refine v_getf (T := TX2) (ci := 2) 0 dX2_isBalanced_17 q2488 rfl in_X2 (Nat.le_of_ble_eq_true rfl) (Or.inl rfl) hh30 hk31 ?_
  refine v_bipush (v := 8) dX2_isBalanced_20 (by decide) ?_
  obtain ⟨a32, rfl⟩ := aI_s hf
  replace hf := aI_e hf
  obtain ⟨w33, N34, f35, hh36, hi37, i38, ei38, hf⟩ := hf
  refine v_iald dX2_isBalanced_22 hh36 hi37 ?_
  rw [← ei38]
  refine v_iadd dX2_isBalanced_23 ?_
  refine v_icmp_ne 31 dX2_isBalanced_24 (by decide) (fun c39 => ?_) (fun c39 => ?_)
  · replace hf := hf.1 c39
    refine v_iconst (v := 0) dX2_isBalanced_31 (by decide) ?_
    exact v_iret dX2_isBalanced_32 rfl ⟨_, rfl, hf⟩
  · replace hf := hf.2 c39
    refine v_iconst (v := 1) dX2_isBalanced_27 (by decide) ?_
    refine v_goto 32 dX2_isBalanced_28 (by decide) ?_
    exact v_iret dX2_isBalanced_32 rfl ⟨_, rfl, hf⟩
abbrev Y_X2_meanOil : Yt := (yX2_meanOil, some (.double), 3, 83, [])
def f_X2_meanOil (G : Gt) (h : Hp) (k n : Nat) (t_0 : Option Nat) (K : UInt64 → Hp → Prop) : Prop :=
gR h t_0 2 0 fun r1 =>
aI h r1 0 (0 : Int32) fun i12 =>
((¬ (i12 = 0) → rv h t_0 2 (dI G Y_X2_allOil cX2_allOil 3 [va_rf t_0] h k n (fun i18 h17 k21 n22 =>
gR h17 t_0 2 0 fun r23 =>
aI h17 r23 0 (0 : Int32) fun i34 =>
(vf_n64 (FP.ddiv (FP.i2d i18) (FP.i2d i34)) ∧ K (FP.ddiv (FP.i2d i18) (FP.i2d i34)) h17)) xN)) ∧
(i12 = 0 → K FP.dconst0 h))
theorem m_X2_meanOil {G : Gt} {h : Hp} {mc ms : Nat} {a0 : Nat} {K : UInt64 → Hp → Prop} (hG : Base G) (hA : 0 ≤ mc) (hB : 0 ≤ ms) (hf : f_X2_meanOil G h (mc - 0) (ms - 0) (some a0) K) : MM G Y_X2_meanOil cX2_meanOil 1 mc ms [.ref a0] h (kD K) xN := by
  refine mm_of hG (by decide +kernel) rfl (ac_c rfl ac_nil) (Nat.le_of_ble_eq_true rfl) (fun E _ _ => ?_)
  obtain ⟨k, hk9⟩ : ∃ z, z = mc - 0 := ⟨_, rfl⟩
  obtain ⟨n, hn9⟩ : ∃ z, z = ms - 0 := ⟨_, rfl⟩
  rw [← hk9, ← hn9] at hf
  refine V.weak (k' := k + 0) (n' := n + 0) ?_ (by omega) (by omega)
  show V G E Y_X2_meanOil cX2_meanOil 1 (QM G E (kD K) xN) h (k + 0) (n + 0) 0 [(0, .ref a0)] []
  unfold f_X2_meanOil at hf
  refine v_qload_n (r := (some a0)) (i := 0) dX2_meanOil_0 rfl rfl ?_
  replace hf := gR_e hf
  obtain ⟨w2, fs3, r1, hh4, hk5, hf⟩ := hf
  refine v_getf (T := TX2) (ci := 2) 0 dX2_meanOil_1 q2488 rfl in_X2 (Nat.le_of_ble_eq_true rfl) (Or.inl rfl) hh4 hk5 ?_
  refine v_iconst (v := 0) dX2_meanOil_4 (by decide) ?_
  obtain ⟨a6, rfl⟩ := aI_s hf
  replace hf := aI_e hf
  obtain ⟨w7, N8, f9, hh10, hi11, i12, ei12, hf⟩ := hf
  refine v_iald dX2_meanOil_5 hh10 hi11 ?_
  rw [← ei12]
  refine v_if_ne 13 dX2_meanOil_6 (by decide) (fun c13 => ?_) (fun c13 => ?_)
  · replace hf := hf.1 c13
    refine v_qload_n (r := (some a0)) (i := 0) dX2_meanOil_13 rfl rfl ?_
    replace hf := rv_e hf
    obtain ⟨w14, fs15, hh16, hf⟩ := hf
    obtain ⟨mc19, ms20, hkmc19, hnms20, hM⟩ := hf
    refine V.weak (k' := ((k - mc19) + 0) + mc19) (n' := ((n - ms20) + 0) + ms20) ?_ (by omega) (by omega)
    refine v_callV 0 dX2_meanOil_14 hM rfl hh16 rfl (lw_V q2833 q2835 qs86 q98 q2836) rfl (by decide +kernel) (by decide) rfl (cat_len (Nat.le_of_ble_eq_true rfl)) (kk_I fun i18 h17 hg => ?_) (fun _ _ _ hx => hx.elim)
    have hf := hg
    clear hg
    refine v_i2d dX2_meanOil_17 ?_
    refine v_qload_n (r := (some a0)) (i := 0) dX2_meanOil_18 rfl rfl ?_
    replace hf := gR_e hf
    obtain ⟨w24, fs25, r23, hh26, hk27, hf⟩ := hf
    refine v_getf (T := TX2) (ci := 2) 0 dX2_meanOil_19 q2488 rfl in_X2 (Nat.le_of_ble_eq_true rfl) (Or.inl rfl) hh26 hk27 ?_
    refine v_iconst (v := 0) dX2_meanOil_22 (by decide) ?_
    obtain ⟨a28, rfl⟩ := aI_s hf
    replace hf := aI_e hf
    obtain ⟨w29, N30, f31, hh32, hi33, i34, ei34, hf⟩ := hf
    refine v_iald dX2_meanOil_23 hh32 hi33 ?_
    rw [← ei34]
    refine v_i2d dX2_meanOil_24 ?_
    obtain ⟨hz, hf⟩ := hf
    refine v_ddiv dX2_meanOil_25 hz ?_
    exact v_dret dX2_meanOil_26 rfl ⟨_, rfl, hf⟩
  · replace hf := hf.2 c13
    refine v_dconst0 dX2_meanOil_9 ?_
    refine v_goto 26 dX2_meanOil_10 (by decide) ?_
    exact v_dret dX2_meanOil_26 rfl ⟨_, rfl, hf⟩
abbrev Y_X2_doubledShare : Yt := (yX2_doubledShare, some (.float), 7, 174, [])
def g_X2_doubledShare_0 (G : Gt) (E : Ev) (h : Hp) (k n : Nat) (a0 : Nat) (K : UInt32 → Hp → Prop) : Prop :=
gR h (some a0) 2 0 fun r1 =>
aI h r1 0 (0 : Int32) fun i12 =>
((¬ (i12 = 0) → V G E Y_X2_doubledShare cX2_doubledShare 3 (QM G E (kF K) xN) h k n 15 [(0, .ref a0), (1, .int (0 : Int32)), (2, .int (0 : Int32))] []) ∧
(i12 = 0 → K FP.fconst0 h))
theorem s_X2_doubledShare_0 {G : Gt} {E : Ev} {h : Hp} {k0 n0 : Nat} {a0 : Nat} {K : UInt32 → Hp → Prop} (hG : Base G) (hA : 0 ≤ k0) (hB : 0 ≤ n0) (hf : g_X2_doubledShare_0 G E h (k0 - 0) (n0 - 0) a0 K) : V G E Y_X2_doubledShare cX2_doubledShare 3 (QM G E (kF K) xN) h k0 n0 0 [(0, .ref a0)] [] := by
  obtain ⟨k, hk9⟩ : ∃ z, z = k0 - 0 := ⟨_, rfl⟩
  obtain ⟨n, hn9⟩ : ∃ z, z = n0 - 0 := ⟨_, rfl⟩
  rw [← hk9, ← hn9] at hf
  refine V.weak (k' := k + 0) (n' := n + 0) ?_ (by omega) (by omega)
  unfold g_X2_doubledShare_0 at hf
  refine v_aload_n (i := 0) dX2_doubledShare_0 rfl rfl ?_
  replace hf := gR_e hf
  obtain ⟨w2, fs3, r1, hh4, hk5, hf⟩ := hf
  refine v_getf (T := TX2) (ci := 2) 0 dX2_doubledShare_1 q2488 rfl in_X2 (Nat.le_of_ble_eq_true rfl) (Or.inl rfl) hh4 hk5 ?_
  refine v_iconst (v := 0) dX2_doubledShare_4 (by decide) ?_
  obtain ⟨a6, rfl⟩ := aI_s hf
  replace hf := aI_e hf
  obtain ⟨w7, N8, f9, hh10, hi11, i12, ei12, hf⟩ := hf
  refine v_iald dX2_doubledShare_5 hh10 hi11 ?_
  rw [← ei12]
  refine v_if_ne 11 dX2_doubledShare_6 (by decide) (fun c13 => ?_) (fun c13 => ?_)
  · replace hf := hf.1 c13
    refine v_iconst (v := 0) dX2_doubledShare_11 (by decide) ?_
    refine v_istore_n (i := 1) (lv' := [(0, .ref a0), (1, .int (0 : Int32))]) dX2_doubledShare_12 rfl (Nat.le_of_ble_eq_true rfl) rfl rfl ?_
    refine v_iconst (v := 0) dX2_doubledShare_13 (by decide) ?_
    refine v_istore_n (i := 2) (lv' := [(0, .ref a0), (1, .int (0 : Int32)), (2, .int (0 : Int32))]) dX2_doubledShare_14 rfl (Nat.le_of_ble_eq_true rfl) rfl rfl ?_
    exact V.weak hf (by omega) (by omega)
  · replace hf := hf.2 c13
    refine v_fconst0 dX2_doubledShare_9 ?_
    exact v_fret dX2_doubledShare_10 rfl ⟨_, rfl, hf⟩
def g_X2_doubledShare_15 (G : Gt) (E : Ev) (h : Hp) (k n : Nat) (a0 : Nat) (i_1 : Int32) (i_2 : Int32) (K : UInt32 → Hp → Prop) : Prop :=
gR h (some a0) 2 0 fun r1 =>
aI h r1 0 (0 : Int32) fun i12 =>
((i12 ≤ i_2 → gR h (some a0) 2 0 fun r14 =>
aI h r14 0 (0 : Int32) fun i25 =>
(vf_n32 (FP.fdiv (FP.i2f i_1) (FP.i2f i25)) ∧ K (FP.fdiv (FP.i2f i_1) (FP.i2f i25)) h)) ∧
(¬ (i12 ≤ i_2) → rv h (some a0) 2 (dI G Y_X2_isDoubled cX2_isDoubled 2 [va_rf (some a0), .int i_2] h k n (fun i30 h29 k33 n34 =>
((i30 = 0 → V G E Y_X2_doubledShare cX2_doubledShare 3 (QM G E (kF K) xN) h29 k33 n34 15 [(0, .ref a0), (1, .int (i_1 + (0 : Int32))), (2, .int (i_2 + (1 : Int32)))] []) ∧
(¬ (i30 = 0) → V G E Y_X2_doubledShare cX2_doubledShare 3 (QM G E (kF K) xN) h29 k33 n34 15 [(0, .ref a0), (1, .int (i_1 + (1 : Int32))), (2, .int (i_2 + (1 : Int32)))] []))) xN)))
theorem s_X2_doubledShare_15 {G : Gt} {E : Ev} {h : Hp} {k0 n0 : Nat} {a0 : Nat} {i_1 : Int32} {i_2 : Int32} {K : UInt32 → Hp → Prop} (hG : Base G) (hA : 0 ≤ k0) (hB : 0 ≤ n0) (hf : g_X2_doubledShare_15 G E h (k0 - 0) (n0 - 0) a0 i_1 i_2 K) : V G E Y_X2_doubledShare cX2_doubledShare 3 (QM G E (kF K) xN) h k0 n0 15 [(0, .ref a0), (1, .int i_1), (2, .int i_2)] [] := by
  obtain ⟨k, hk9⟩ : ∃ z, z = k0 - 0 := ⟨_, rfl⟩
  obtain ⟨n, hn9⟩ : ∃ z, z = n0 - 0 := ⟨_, rfl⟩
  rw [← hk9, ← hn9] at hf
  refine V.weak (k' := k + 0) (n' := n + 0) ?_ (by omega) (by omega)
  unfold g_X2_doubledShare_15 at hf
  refine v_iload_n (i := 2) dX2_doubledShare_15 rfl rfl ?_
  refine v_aload_n (i := 0) dX2_doubledShare_16 rfl rfl ?_
  replace hf := gR_e hf
  obtain ⟨w2, fs3, r1, hh4, hk5, hf⟩ := hf
  refine v_getf (T := TX2) (ci := 2) 0 dX2_doubledShare_17 q2488 rfl in_X2 (Nat.le_of_ble_eq_true rfl) (Or.inl rfl) hh4 hk5 ?_
  refine v_iconst (v := 0) dX2_doubledShare_20 (by decide) ?_
  obtain ⟨a6, rfl⟩ := aI_s hf
  replace hf := aI_e hf
  obtain ⟨w7, N8, f9, hh10, hi11, i12, ei12, hf⟩ := hf
  refine v_iald dX2_doubledShare_21 hh10 hi11 ?_
  rw [← ei12]
  refine v_icmp_ge 47 dX2_doubledShare_22 (by decide) (fun c13 => ?_) (fun c13 => ?_)
  · replace hf := hf.1 c13
    refine v_iload_n (i := 1) dX2_doubledShare_47 rfl rfl ?_
    refine v_i2f dX2_doubledShare_48 ?_
    refine v_aload_n (i := 0) dX2_doubledShare_49 rfl rfl ?_
    replace hf := gR_e hf
    obtain ⟨w15, fs16, r14, hh17, hk18, hf⟩ := hf
    refine v_getf (T := TX2) (ci := 2) 0 dX2_doubledShare_50 q2488 rfl in_X2 (Nat.le_of_ble_eq_true rfl) (Or.inl rfl) hh17 hk18 ?_
    refine v_iconst (v := 0) dX2_doubledShare_53 (by decide) ?_
    obtain ⟨a19, rfl⟩ := aI_s hf
    replace hf := aI_e hf
    obtain ⟨w20, N21, f22, hh23, hi24, i25, ei25, hf⟩ := hf
    refine v_iald dX2_doubledShare_54 hh23 hi24 ?_
    rw [← ei25]
    refine v_i2f dX2_doubledShare_55 ?_
    obtain ⟨hz, hf⟩ := hf
    refine v_fdiv dX2_doubledShare_56 hz ?_
    exact v_fret dX2_doubledShare_57 rfl ⟨_, rfl, hf⟩
  · replace hf := hf.2 c13
    refine v_iload_n (i := 1) dX2_doubledShare_25 rfl rfl ?_
    refine v_aload_n (i := 0) dX2_doubledShare_26 rfl rfl ?_
    refine v_iload_n (i := 2) dX2_doubledShare_27 rfl rfl ?_
    replace hf := rv_e hf
    obtain ⟨w26, fs27, hh28, hf⟩ := hf
    obtain ⟨mc31, ms32, hkmc31, hnms32, hM⟩ := hf
    refine V.weak (k' := ((k - mc31) + 0) + mc31) (n' := ((n - ms32) + 0) + ms32) ?_ (by omega) (by omega)
    refine v_callV 1 dX2_doubledShare_28 hM rfl hh28 rfl (lw_V q2699 q2701 qs68 q98 q2702) rfl (by decide +kernel) (by decide) rfl (cat_len (Nat.le_of_ble_eq_true rfl)) (kk_I fun i30 h29 hg => ?_) (fun _ _ _ hx => hx.elim)
    have hf := hg
    clear hg
    refine v_if_eq 38 dX2_doubledShare_31 (by decide) (fun c35 => ?_) (fun c35 => ?_)
    · replace hf := hf.1 c35
      refine v_iconst (v := 0) dX2_doubledShare_38 (by decide) ?_
      refine v_iadd dX2_doubledShare_39 ?_
      refine v_istore_n (i := 1) (lv' := [(0, .ref a0), (1, .int (i_1 + (0 : Int32))), (2, .int i_2)]) dX2_doubledShare_40 rfl (Nat.le_of_ble_eq_true rfl) rfl rfl ?_
      refine v_iinc (i := 2) (v := i_2 + (1 : Int32)) (lv' := [(0, .ref a0), (1, .int (i_1 + (0 : Int32))), (2, .int (i_2 + (1 : Int32)))]) dX2_doubledShare_41 rfl rfl (Nat.le_of_ble_eq_true rfl) rfl rfl ?_
      refine v_goto 15 dX2_doubledShare_44 (by decide) ?_
      exact V.weak hf (by omega) (by omega)
    · replace hf := hf.2 c35
      refine v_iconst (v := 1) dX2_doubledShare_34 (by decide) ?_
      refine v_goto 39 dX2_doubledShare_35 (by decide) ?_
      refine v_iadd dX2_doubledShare_39 ?_
      refine v_istore_n (i := 1) (lv' := [(0, .ref a0), (1, .int (i_1 + (1 : Int32))), (2, .int i_2)]) dX2_doubledShare_40 rfl (Nat.le_of_ble_eq_true rfl) rfl rfl ?_
      refine v_iinc (i := 2) (v := i_2 + (1 : Int32)) (lv' := [(0, .ref a0), (1, .int (i_1 + (1 : Int32))), (2, .int (i_2 + (1 : Int32)))]) dX2_doubledShare_41 rfl rfl (Nat.le_of_ble_eq_true rfl) rfl rfl ?_
      refine v_goto 15 dX2_doubledShare_44 (by decide) ?_
      exact V.weak hf (by omega) (by omega)
theorem b_X2_doubledShare {G : Gt} {h : Hp} {mc ms : Nat} {a0 : Nat} {K : UInt32 → Hp → Prop} (hG : Base G) (hf : ∀ E : Ev, V G E Y_X2_doubledShare cX2_doubledShare 3 (QM G E (kF K) xN) h mc ms 0 [(0, .ref a0)] []) : MM G Y_X2_doubledShare cX2_doubledShare 3 mc ms [.ref a0] h (kF K) xN := mm_of hG (by decide +kernel) rfl (ac_c rfl ac_nil) (Nat.le_of_ble_eq_true rfl) (fun E _ _ => hf E)
abbrev Y_X2_undo : Yt := (yX2_undo, some (.int), 2, 64, [])
def f_X2_undo (G : Gt) (h : Hp) (k n : Nat) (t_0 : Option Nat) (K : Int32 → Hp → Prop) : Prop :=
gI h t_0 2 5 fun i1 =>
((¬ (i1 = 0) → gI h t_0 2 5 fun i7 =>
pF h t_0 2 5 (.int (i7 - (1 : Int32))) fun h14 =>
gR h14 t_0 2 1 fun r15 =>
gI h14 t_0 2 5 fun i20 =>
gR h14 t_0 2 0 fun r25 =>
dV G Y_X2_copies cX2_copies 5 [va_rf r15, .int ((146 : Int32) * i20), va_rf r25, .int (0 : Int32)] h14 k n (fun h30 k33 n34 =>
gI h30 t_0 2 5 fun i35 =>
K i35 h30) xN) ∧
(i1 = 0 → K (-1015 : Int32) h))
theorem m_X2_undo {G : Gt} {h : Hp} {mc ms : Nat} {a0 : Nat} {K : Int32 → Hp → Prop} (hG : Base G) (hA : 0 ≤ mc) (hB : 0 ≤ ms) (hf : f_X2_undo G h (mc - 0) (ms - 0) (some a0) K) : MM G Y_X2_undo cX2_undo 1 mc ms [.ref a0] h (kI K) xN := by
  refine mm_of hG (by decide +kernel) rfl (ac_c rfl ac_nil) (Nat.le_of_ble_eq_true rfl) (fun E _ _ => ?_)
  obtain ⟨k, hk9⟩ : ∃ z, z = mc - 0 := ⟨_, rfl⟩
  obtain ⟨n, hn9⟩ : ∃ z, z = ms - 0 := ⟨_, rfl⟩
  rw [← hk9, ← hn9] at hf
  refine V.weak (k' := k + 0) (n' := n + 0) ?_ (by omega) (by omega)
  show V G E Y_X2_undo cX2_undo 1 (QM G E (kI K) xN) h (k + 0) (n + 0) 0 [(0, .ref a0)] []
  unfold f_X2_undo at hf
  refine v_qload_n (r := (some a0)) (i := 0) dX2_undo_0 rfl rfl ?_
  replace hf := gI_e hf
  obtain ⟨w2, fs3, i1, hh4, hk5, hf⟩ := hf
  refine v_getf (T := TX2) (ci := 2) 5 dX2_undo_1 q2493 rfl in_X2 (Nat.le_of_ble_eq_true rfl) (Or.inl rfl) hh4 hk5 ?_
  refine v_if_ne 11 dX2_undo_4 (by decide) (fun c6 => ?_) (fun c6 => ?_)
  · replace hf := hf.1 c6
    refine v_qload_n (r := (some a0)) (i := 0) dX2_undo_11 rfl rfl ?_
    refine v_dup dX2_undo_12 (rf_cat _) ?_
    replace hf := gI_e hf
    obtain ⟨w8, fs9, i7, hh10, hk11, hf⟩ := hf
    refine v_getf (T := TX2) (ci := 2) 5 dX2_undo_13 q2493 rfl in_X2 (Nat.le_of_ble_eq_true rfl) (Or.inl rfl) hh10 hk11 ?_
    refine v_iconst (v := 1) dX2_undo_16 (by decide) ?_
    refine v_isub dX2_undo_17 ?_
    replace hf := pF_e hf
    obtain ⟨fs12, hh13, hf⟩ := hf
    refine v_putf (v := .int (i7 - (1 : Int32))) (T := TX2) (ci := 2) (ty := .int) 5 dX2_undo_18 q2493 rfl in_X2 tyX2 tyX2_ok nmX2 (Nat.le_of_ble_eq_true rfl) (Or.inl rfl) rfl (by decide +kernel) rfl rfl hh13 ?_
    obtain ⟨h14, eh14⟩ : ∃ z, z = hs h a0 (true, .inr (2, fs12.set 5 (.int (i7 - (1 : Int32))))) := ⟨_, rfl⟩
    try rw [← eh14] at hf
    rw [← eh14]
    refine v_qload_n (r := (some a0)) (i := 0) dX2_undo_21 rfl rfl ?_
    replace hf := gR_e hf
    obtain ⟨w16, fs17, r15, hh18, hk19, hf⟩ := hf
    refine v_getf (T := TX2) (ci := 2) 1 dX2_undo_22 q2489 rfl in_X2 (Nat.le_of_ble_eq_true rfl) (Or.inl rfl) hh18 hk19 ?_
    refine v_sipush (v := 146) dX2_undo_25 (by decide) ?_
    refine v_qload_n (r := (some a0)) (i := 0) dX2_undo_28 rfl rfl ?_
    replace hf := gI_e hf
    obtain ⟨w21, fs22, i20, hh23, hk24, hf⟩ := hf
    refine v_getf (T := TX2) (ci := 2) 5 dX2_undo_29 q2493 rfl in_X2 (Nat.le_of_ble_eq_true rfl) (Or.inl rfl) hh23 hk24 ?_
    refine v_imul dX2_undo_32 ?_
    refine v_qload_n (r := (some a0)) (i := 0) dX2_undo_33 rfl rfl ?_
    replace hf := gR_e hf
    obtain ⟨w26, fs27, r25, hh28, hk29, hf⟩ := hf
    refine v_getf (T := TX2) (ci := 2) 0 dX2_undo_34 q2488 rfl in_X2 (Nat.le_of_ble_eq_true rfl) (Or.inl rfl) hh28 hk29 ?_
    refine v_iconst (v := 0) dX2_undo_37 (by decide) ?_
    obtain ⟨mc31, ms32, hkmc31, hnms32, hM⟩ := hf
    refine V.weak (k' := ((k - mc31) + 0) + mc31) (n' := ((n - ms32) + 0) + ms32) ?_ (by omega) (by omega)
    refine v_callS 4 dX2_undo_38 hM rfl (lw_S q2558 q2559 q98 q2560) rfl (by decide +kernel) (by decide) rfl (cat_len (Nat.le_of_ble_eq_true rfl)) (kk_V fun h30 hg => ?_) (fun _ _ _ hx => hx.elim)
    have hf := hg
    clear hg
    refine v_qload_n (r := (some a0)) (i := 0) dX2_undo_41 rfl rfl ?_
    replace hf := gI_e hf
    obtain ⟨w36, fs37, i35, hh38, hk39, hf⟩ := hf
    refine v_getf (T := TX2) (ci := 2) 5 dX2_undo_42 q2493 rfl in_X2 (Nat.le_of_ble_eq_true rfl) (Or.inl rfl) hh38 hk39 ?_
    exact v_iret dX2_undo_45 rfl ⟨_, rfl, hf⟩
  · replace hf := hf.2 c6
    refine v_sipush (v := -1015) dX2_undo_7 (by decide) ?_
    exact v_iret dX2_undo_10 rfl ⟨_, rfl, hf⟩
abbrev Y_X2_save : Yt := (yX2_save, some (.int), 2, 64, [])
def f_X2_save (G : Gt) (h : Hp) (k n : Nat) (t_0 : Option Nat) (K : Int32 → Hp → Prop) : Prop :=
((narrow .boolean (.int (1 : Int32)) = .int (1 : Int32) ∧ fits .boolean (.int (1 : Int32)) = true) ∧ pF h t_0 2 4 (.int (1 : Int32)) fun h3 =>
gR h3 t_0 2 0 fun r4 =>
gR h3 t_0 2 2 fun r9 =>
dV G Y_X2_copies cX2_copies 5 [va_rf r4, .int (0 : Int32), va_rf r9, .int (0 : Int32)] h3 k n (fun h14 k17 n18 =>
gR h14 t_0 2 0 fun r19 =>
aI h14 r19 0 (0 : Int32) fun i30 =>
K i30 h14) xN)
theorem m_X2_save {G : Gt} {h : Hp} {mc ms : Nat} {a0 : Nat} {K : Int32 → Hp → Prop} (hG : Base G) (hA : 0 ≤ mc) (hB : 0 ≤ ms) (hf : f_X2_save G h (mc - 0) (ms - 0) (some a0) K) : MM G Y_X2_save cX2_save 1 mc ms [.ref a0] h (kI K) xN := by
  refine mm_of hG (by decide +kernel) rfl (ac_c rfl ac_nil) (Nat.le_of_ble_eq_true rfl) (fun E _ _ => ?_)
  obtain ⟨k, hk9⟩ : ∃ z, z = mc - 0 := ⟨_, rfl⟩
  obtain ⟨n, hn9⟩ : ∃ z, z = ms - 0 := ⟨_, rfl⟩
  rw [← hk9, ← hn9] at hf
  refine V.weak (k' := k + 0) (n' := n + 0) ?_ (by omega) (by omega)
  show V G E Y_X2_save cX2_save 1 (QM G E (kI K) xN) h (k + 0) (n + 0) 0 [(0, .ref a0)] []
  unfold f_X2_save at hf
  refine v_qload_n (r := (some a0)) (i := 0) dX2_save_0 rfl rfl ?_
  refine v_iconst (v := 1) dX2_save_1 (by decide) ?_
  obtain ⟨hnr, hf⟩ := hf
  replace hf := pF_e hf
  obtain ⟨fs1, hh2, hf⟩ := hf
  refine v_putf (v := .int (1 : Int32)) (T := TX2) (ci := 2) (ty := .boolean) 4 dX2_save_2 q2492 rfl in_X2 tyX2 tyX2_ok nmX2 (Nat.le_of_ble_eq_true rfl) (Or.inl rfl) rfl (by decide +kernel) hnr.1 hnr.2 hh2 ?_
  obtain ⟨h3, eh3⟩ : ∃ z, z = hs h a0 (true, .inr (2, fs1.set 4 (.int (1 : Int32)))) := ⟨_, rfl⟩
  try rw [← eh3] at hf
  rw [← eh3]
  refine v_qload_n (r := (some a0)) (i := 0) dX2_save_5 rfl rfl ?_
  replace hf := gR_e hf
  obtain ⟨w5, fs6, r4, hh7, hk8, hf⟩ := hf
  refine v_getf (T := TX2) (ci := 2) 0 dX2_save_6 q2488 rfl in_X2 (Nat.le_of_ble_eq_true rfl) (Or.inl rfl) hh7 hk8 ?_
  refine v_iconst (v := 0) dX2_save_9 (by decide) ?_
  refine v_qload_n (r := (some a0)) (i := 0) dX2_save_10 rfl rfl ?_
  replace hf := gR_e hf
  obtain ⟨w10, fs11, r9, hh12, hk13, hf⟩ := hf
  refine v_getf (T := TX2) (ci := 2) 2 dX2_save_11 q2490 rfl in_X2 (Nat.le_of_ble_eq_true rfl) (Or.inl rfl) hh12 hk13 ?_
  refine v_iconst (v := 0) dX2_save_14 (by decide) ?_
  obtain ⟨mc15, ms16, hkmc15, hnms16, hM⟩ := hf
  refine V.weak (k' := ((k - mc15) + 0) + mc15) (n' := ((n - ms16) + 0) + ms16) ?_ (by omega) (by omega)
  refine v_callS 4 dX2_save_15 hM rfl (lw_S q2558 q2559 q98 q2560) rfl (by decide +kernel) (by decide) rfl (cat_len (Nat.le_of_ble_eq_true rfl)) (kk_V fun h14 hg => ?_) (fun _ _ _ hx => hx.elim)
  have hf := hg
  clear hg
  refine v_qload_n (r := (some a0)) (i := 0) dX2_save_18 rfl rfl ?_
  replace hf := gR_e hf
  obtain ⟨w20, fs21, r19, hh22, hk23, hf⟩ := hf
  refine v_getf (T := TX2) (ci := 2) 0 dX2_save_19 q2488 rfl in_X2 (Nat.le_of_ble_eq_true rfl) (Or.inl rfl) hh22 hk23 ?_
  refine v_iconst (v := 0) dX2_save_22 (by decide) ?_
  obtain ⟨a24, rfl⟩ := aI_s hf
  replace hf := aI_e hf
  obtain ⟨w25, N26, f27, hh28, hi29, i30, ei30, hf⟩ := hf
  refine v_iald dX2_save_23 hh28 hi29 ?_
  rw [← ei30]
  exact v_iret dX2_save_24 rfl ⟨_, rfl, hf⟩
abbrev Y_X2_restore : Yt := (yX2_restore, some (.int), 2, 64, [])
def f_X2_restore (G : Gt) (h : Hp) (k n : Nat) (t_0 : Option Nat) (K : Int32 → Hp → Prop) : Prop :=
gI h t_0 2 4 fun i1 =>
((¬ (i1 = 0) → gR h t_0 2 2 fun r7 =>
gR h t_0 2 0 fun r12 =>
dV G Y_X2_copies cX2_copies 5 [va_rf r7, .int (0 : Int32), va_rf r12, .int (0 : Int32)] h k n (fun h17 k20 n21 =>
pF h17 t_0 2 5 (.int (0 : Int32)) fun h24 =>
gR h24 t_0 2 0 fun r25 =>
aI h24 r25 0 (0 : Int32) fun i36 =>
K i36 h24) xN) ∧
(i1 = 0 → K (-1015 : Int32) h))
theorem m_X2_restore {G : Gt} {h : Hp} {mc ms : Nat} {a0 : Nat} {K : Int32 → Hp → Prop} (hG : Base G) (hA : 0 ≤ mc) (hB : 0 ≤ ms) (hf : f_X2_restore G h (mc - 0) (ms - 0) (some a0) K) : MM G Y_X2_restore cX2_restore 1 mc ms [.ref a0] h (kI K) xN := by
  refine mm_of hG (by decide +kernel) rfl (ac_c rfl ac_nil) (Nat.le_of_ble_eq_true rfl) (fun E _ _ => ?_)
  obtain ⟨k, hk9⟩ : ∃ z, z = mc - 0 := ⟨_, rfl⟩
  obtain ⟨n, hn9⟩ : ∃ z, z = ms - 0 := ⟨_, rfl⟩
  rw [← hk9, ← hn9] at hf
  refine V.weak (k' := k + 0) (n' := n + 0) ?_ (by omega) (by omega)
  show V G E Y_X2_restore cX2_restore 1 (QM G E (kI K) xN) h (k + 0) (n + 0) 0 [(0, .ref a0)] []
  unfold f_X2_restore at hf
  refine v_qload_n (r := (some a0)) (i := 0) dX2_restore_0 rfl rfl ?_
  replace hf := gI_e hf
  obtain ⟨w2, fs3, i1, hh4, hk5, hf⟩ := hf
  refine v_getf (T := TX2) (ci := 2) 4 dX2_restore_1 q2492 rfl in_X2 (Nat.le_of_ble_eq_true rfl) (Or.inl rfl) hh4 hk5 ?_
  refine v_if_ne 11 dX2_restore_4 (by decide) (fun c6 => ?_) (fun c6 => ?_)
  · replace hf := hf.1 c6
    refine v_qload_n (r := (some a0)) (i := 0) dX2_restore_11 rfl rfl ?_
    replace hf := gR_e hf
    obtain ⟨w8, fs9, r7, hh10, hk11, hf⟩ := hf
    refine v_getf (T := TX2) (ci := 2) 2 dX2_restore_12 q2490 rfl in_X2 (Nat.le_of_ble_eq_true rfl) (Or.inl rfl) hh10 hk11 ?_
    refine v_iconst (v := 0) dX2_restore_15 (by decide) ?_
    refine v_qload_n (r := (some a0)) (i := 0) dX2_restore_16 rfl rfl ?_
    replace hf := gR_e hf
    obtain ⟨w13, fs14, r12, hh15, hk16, hf⟩ := hf
    refine v_getf (T := TX2) (ci := 2) 0 dX2_restore_17 q2488 rfl in_X2 (Nat.le_of_ble_eq_true rfl) (Or.inl rfl) hh15 hk16 ?_
    refine v_iconst (v := 0) dX2_restore_20 (by decide) ?_
    obtain ⟨mc18, ms19, hkmc18, hnms19, hM⟩ := hf
    refine V.weak (k' := ((k - mc18) + 0) + mc18) (n' := ((n - ms19) + 0) + ms19) ?_ (by omega) (by omega)
    refine v_callS 4 dX2_restore_21 hM rfl (lw_S q2558 q2559 q98 q2560) rfl (by decide +kernel) (by decide) rfl (cat_len (Nat.le_of_ble_eq_true rfl)) (kk_V fun h17 hg => ?_) (fun _ _ _ hx => hx.elim)
    have hf := hg
    clear hg
    refine v_qload_n (r := (some a0)) (i := 0) dX2_restore_24 rfl rfl ?_
    refine v_iconst (v := 0) dX2_restore_25 (by decide) ?_
    replace hf := pF_e hf
    obtain ⟨fs22, hh23, hf⟩ := hf
    refine v_putf (v := .int (0 : Int32)) (T := TX2) (ci := 2) (ty := .int) 5 dX2_restore_26 q2493 rfl in_X2 tyX2 tyX2_ok nmX2 (Nat.le_of_ble_eq_true rfl) (Or.inl rfl) rfl (by decide +kernel) rfl rfl hh23 ?_
    obtain ⟨h24, eh24⟩ : ∃ z, z = hs h17 a0 (true, .inr (2, fs22.set 5 (.int (0 : Int32)))) := ⟨_, rfl⟩
    try rw [← eh24] at hf
    rw [← eh24]
    refine v_qload_n (r := (some a0)) (i := 0) dX2_restore_29 rfl rfl ?_
    replace hf := gR_e hf
    obtain ⟨w26, fs27, r25, hh28, hk29, hf⟩ := hf
    refine v_getf (T := TX2) (ci := 2) 0 dX2_restore_30 q2488 rfl in_X2 (Nat.le_of_ble_eq_true rfl) (Or.inl rfl) hh28 hk29 ?_
    refine v_iconst (v := 0) dX2_restore_33 (by decide) ?_
    obtain ⟨a30, rfl⟩ := aI_s hf
    replace hf := aI_e hf
    obtain ⟨w31, N32, f33, hh34, hi35, i36, ei36, hf⟩ := hf
    refine v_iald dX2_restore_34 hh34 hi35 ?_
    rw [← ei36]
    exact v_iret dX2_restore_35 rfl ⟨_, rfl, hf⟩
  · replace hf := hf.2 c6
    refine v_sipush (v := -1015) dX2_restore_7 (by decide) ?_
    exact v_iret dX2_restore_10 rfl ⟨_, rfl, hf⟩
