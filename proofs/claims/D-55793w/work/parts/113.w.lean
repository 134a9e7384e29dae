/-! walks printed by tools/mkwalk.py -/
set_option maxRecDepth 100000
abbrev Y_X3_init : Yt := (yX3_init, none, 1, 40, [])
def f_X3_init (G : Gt) (h : Hp) (t_0 : Option Nat) (i_1 : Int32) (r_2 : Option Nat) (K : Hp → Prop) : Prop :=
pF h t_0 3 1 (.int i_1) fun h3 =>
pF h3 t_0 3 0 (va_rf r_2) fun h6 =>
K h6
theorem m_X3_init {G : Gt} {h : Hp} {a0 : Nat} {i_1 : Int32} {r_2 : Option Nat} {K : Hp → Prop} (hG : Base G) (hf : f_X3_init G h (some a0) i_1 r_2 K) : MM G Y_X3_init cX3_init 3 0 0 [.ref a0, .int i_1, va_rf r_2] h (kV K) xN := by
  refine mm_of hG (by decide +kernel) rfl (ac_c rfl (ac_c rfl (ac_c (rf_cat _) ac_nil))) (Nat.le_of_ble_eq_true rfl) (fun E _ _ => ?_)
  show V G E Y_X3_init cX3_init 3 (QM G E (kV K) xN) h 0 0 0 [(0, .ref a0), (1, .int i_1), (2, va_rf r_2)] []
  unfold f_X3_init at hf
  refine v_qload_n (r := (some a0)) (i := 0) dX3_init_0 rfl rfl ?_
  refine v_objInit dX3_init_1 q412 q153 q154 (cat_len (Nat.le_of_ble_eq_true rfl)) (Nat.le_of_ble_eq_true rfl) (Nat.le_of_ble_eq_true rfl) ?_
  refine v_qload_n (r := (some a0)) (i := 0) dX3_init_4 rfl rfl ?_
  refine v_iload_n (i := 1) dX3_init_5 rfl rfl ?_
  replace hf := pF_e hf
  obtain ⟨fs1, hh2, hf⟩ := hf
  refine v_putf (v := .int i_1) (T := TX3) (ci := 3) (ty := .int) 1 dX3_init_6 q415 rfl in_X3 tyX3 tyX3_ok nmX3 (Nat.le_of_ble_eq_true rfl) (Or.inl rfl) rfl (by decide +kernel) rfl rfl hh2 ?_
  obtain ⟨h3, eh3⟩ : ∃ z, z = hs h a0 (true, .inr (3, fs1.set 1 (.int i_1))) := ⟨_, rfl⟩
  try rw [← eh3] at hf
  rw [← eh3]
  refine v_qload_n (r := (some a0)) (i := 0) dX3_init_9 rfl rfl ?_
  refine v_qload_n (r := r_2) (i := 2) dX3_init_10 rfl rfl ?_
  replace hf := pF_e hf
  obtain ⟨fs4, hh5, hf⟩ := hf
  refine v_putfF (v := va_rf r_2) (T := TX3) (ci := 3) (ty := .array (.int)) 0 dX3_init_11 q413 rfl in_X3 tyX3 tyX3_ok nmX3 (Nat.le_of_ble_eq_true rfl) (Or.inl rfl) rfl rfl rfl (by decide +kernel) (rf_narA _ _) (rf_fitA _ _) hh5 ?_
  obtain ⟨h6, eh6⟩ : ∃ z, z = hs h3 a0 (true, .inr (3, fs4.set 0 (va_rf r_2))) := ⟨_, rfl⟩
  try rw [← eh6] at hf
  rw [← eh6]
  exact v_vret dX3_init_14 rfl ⟨rfl, hf⟩
abbrev Y_X3_copy : Yt := (yX3_copy, some (.object "ParityMaze$Room"), 2, 62, [])
def g_X3_copy_0 (G : Gt) (E : Ev) (h : Hp) (k n : Nat) (a0 : Nat) (K : Option Nat → Hp → Prop) : Prop :=
nA h 0 (3, .inl (fun _ => 0)) fun a1 h2 =>
V G E Y_X3_copy cX3_copy 3 (QM G E (kR K) xN) h2 k n 6 [(0, .ref a0), (1, .ref a1), (2, .int (0 : Int32))] []
theorem s_X3_copy_0 {G : Gt} {E : Ev} {h : Hp} {k0 n0 : Nat} {a0 : Nat} {K : Option Nat → Hp → Prop} (hG : Base G) (hA : 1 ≤ k0) (hB : 3 ≤ n0) (hf : g_X3_copy_0 G E h (k0 - 1) (n0 - 3) a0 K) : V G E Y_X3_copy cX3_copy 3 (QM G E (kR K) xN) h k0 n0 0 [(0, .ref a0)] [] := by
  obtain ⟨k, hk9⟩ : ∃ z, z = k0 - 1 := ⟨_, rfl⟩
  obtain ⟨n, hn9⟩ : ∃ z, z = n0 - 3 := ⟨_, rfl⟩
  rw [← hk9, ← hn9] at hf
  refine V.weak (k' := k + 1) (n' := n + 3) ?_ (by omega) (by omega)
  unfold g_X3_copy_0 at hf
  refine v_iconst (v := 3) dX3_copy_0 (by decide) ?_
  refine v_newa (t := 0) (N := 3) (x := (3, .inl (fun _ => 0))) dX3_copy_1 (Nat.le_of_ble_eq_true rfl) rfl q219 (fun _ => rfl) rfl (Nat.le_of_ble_eq_true rfl) (fun a1 ha1 => ?_)
  replace hf := hf a1 ha1
  obtain ⟨h2, eh2⟩ : ∃ z, z = hs h a1 (true, .inl (0, (3, .inl (fun _ => 0)))) := ⟨_, rfl⟩
  try rw [← eh2] at hf
  rw [← eh2]
  refine v_astore_n (i := 1) (lv' := [(0, .ref a0), (1, .ref a1)]) dX3_copy_3 rfl (Nat.le_of_ble_eq_true rfl) rfl rfl ?_
  refine v_iconst (v := 0) dX3_copy_4 (by decide) ?_
  refine v_istore_n (i := 2) (lv' := [(0, .ref a0), (1, .ref a1), (2, .int (0 : Int32))]) dX3_copy_5 rfl (Nat.le_of_ble_eq_true rfl) rfl rfl ?_
  exact V.weak hf (by omega) (by omega)
def g_X3_copy_6 (G : Gt) (E : Ev) (h : Hp) (k n : Nat) (a0 : Nat) (r_1 : Option Nat) (i_2 : Int32) (K : Option Nat → Hp → Prop) : Prop :=
(((3 : Int32) ≤ i_2 → nO h 3 [.null, .int 0] fun a2 h3 =>
gI h3 (some a0) 3 1 fun i4 =>
f_X3_init G h3 (some a2) i4 r_1 (fun h9 =>
K (some a2) h9)) ∧
(¬ ((3 : Int32) ≤ i_2) → gR h (some a0) 3 0 fun r10 =>
aI h r10 0 i_2 fun i21 =>
sI h r_1 i_2 i21 fun h27 =>
V G E Y_X3_copy cX3_copy 3 (QM G E (kR K) xN) h27 k n 6 [(0, .ref a0), (1, va_rf r_1), (2, .int (i_2 + (1 : Int32)))] []))
theorem s_X3_copy_6 {G : Gt} {E : Ev} {h : Hp} {k0 n0 : Nat} {a0 : Nat} {r_1 : Option Nat} {i_2 : Int32} {K : Option Nat → Hp → Prop} (hG : Base G) (hA : 1 ≤ k0) (hB : 2 ≤ n0) (hf : g_X3_copy_6 G E h (k0 - 1) (n0 - 2) a0 r_1 i_2 K) : V G E Y_X3_copy cX3_copy 3 (QM G E (kR K) xN) h k0 n0 6 [(0, .ref a0), (1, va_rf r_1), (2, .int i_2)] [] := by
  obtain ⟨k, hk9⟩ : ∃ z, z = k0 - 1 := ⟨_, rfl⟩
  obtain ⟨n, hn9⟩ : ∃ z, z = n0 - 2 := ⟨_, rfl⟩
  rw [← hk9, ← hn9] at hf
  refine V.weak (k' := k + 1) (n' := n + 2) ?_ (by omega) (by omega)
  unfold g_X3_copy_6 at hf
  refine v_iload_n (i := 2) dX3_copy_6 rfl rfl ?_
  refine v_iconst (v := 3) dX3_copy_7 (by decide) ?_
  refine v_icmp_ge 26 dX3_copy_8 (by decide) (fun c1 => ?_) (fun c1 => ?_)
  · replace hf := hf.1 c1
    refine v_new (N := 2) (fs := [.null, .int 0]) (ci := 3) dX3_copy_26 q407 q408 q100 rfl in_X3 tyX3 tyX3_ok rfl (fun a2 ha2 => ?_)
    replace hf := hf a2 ha2
    obtain ⟨h3, eh3⟩ : ∃ z, z = hs h a2 (true, .inr (3, [.null, .int 0])) := ⟨_, rfl⟩
    try rw [← eh3] at hf
    rw [← eh3]
    refine v_dup dX3_copy_29 rfl ?_
    refine v_aload_n (i := 0) dX3_copy_30 rfl rfl ?_
    replace hf := gI_e hf
    obtain ⟨w5, fs6, i4, hh7, hk8, hf⟩ := hf
    refine v_getf (T := TX3) (ci := 3) 1 dX3_copy_31 q415 rfl in_X3 (Nat.le_of_ble_eq_true rfl) (Or.inl rfl) hh7 hk8 ?_
    refine v_qload_n (r := r_1) (i := 1) dX3_copy_34 rfl rfl ?_
    refine V.addK0 ?_
    refine V.addN0 ?_
    refine v_callI (mc := 0) (ms := 0) 2 dX3_copy_35 (m_X3_init hG hf) rfl (lw_meth q411) rfl q100 q409 q410 rfl rfl (by decide +kernel) (by decide) rfl (cat_len (Nat.le_of_ble_eq_true rfl)) (kk_V fun h9 hg => ?_) (fun _ _ _ hx => hx.elim)
    replace hf := hg
    clear hg
    exact v_qret (r := (some a2)) dX3_copy_38 rfl (Or.inl ⟨_, rfl⟩) ⟨_, rfl, hf⟩
  · replace hf := hf.2 c1
    refine v_qload_n (r := r_1) (i := 1) dX3_copy_11 rfl rfl ?_
    refine v_iload_n (i := 2) dX3_copy_12 rfl rfl ?_
    refine v_aload_n (i := 0) dX3_copy_13 rfl rfl ?_
    replace hf := gR_e hf
    obtain ⟨w11, fs12, r10, hh13, hk14, hf⟩ := hf
    refine v_getf (T := TX3) (ci := 3) 0 dX3_copy_14 q413 rfl in_X3 (Nat.le_of_ble_eq_true rfl) (Or.inl rfl) hh13 hk14 ?_
    refine v_iload_n (i := 2) dX3_copy_17 rfl rfl ?_
    obtain ⟨a15, rfl⟩ := aI_s hf
    replace hf := aI_e hf
    obtain ⟨w16, N17, f18, hh19, hi20, i21, ei21, hf⟩ := hf
    refine v_iald dX3_copy_18 hh19 hi20 ?_
    rw [← ei21]
    obtain ⟨a22, rfl⟩ := sI_s hf
    replace hf := sI_e hf
    obtain ⟨N23, f24, hh25, hi26, hf⟩ := hf
    refine v_iast dX3_copy_19 hh25 hi26 ?_
    obtain ⟨h27, eh27⟩ : ∃ z, z = hs h a22 (true, .inl (0, N23, .inl (upd f24 (i_2).toNatClampNeg (i21)))) := ⟨_, rfl⟩
    try rw [← eh27] at hf
    rw [← eh27]
    refine v_iinc (i := 2) (v := i_2 + (1 : Int32)) (lv' := [(0, .ref a0), (1, va_rf (some a22)), (2, .int (i_2 + (1 : Int32)))]) dX3_copy_20 rfl rfl (Nat.le_of_ble_eq_true rfl) rfl rfl ?_
    refine v_goto 6 dX3_copy_23 (by decide) ?_
    exact V.weak hf (by omega) (by omega)
theorem b_X3_copy {G : Gt} {h : Hp} {mc ms : Nat} {a0 : Nat} {K : Option Nat → Hp → Prop} (hG : Base G) (hf : ∀ E : Ev, V G E Y_X3_copy cX3_copy 3 (QM G E (kR K) xN) h mc ms 0 [(0, .ref a0)] []) : MM G Y_X3_copy cX3_copy 3 mc ms [.ref a0] h (kR K) xN := mm_of hG (by decide +kernel) rfl (ac_c rfl ac_nil) (Nat.le_of_ble_eq_true rfl) (fun E _ _ => hf E)
abbrev Y_X3_init_2 : Yt := (yX3_init_2, none, 2, 62, [])
def f_X3_init_2 (G : Gt) (h : Hp) (t_0 : Option Nat) (i_1 : Int32) (K : Hp → Prop) : Prop :=
nA h 0 (3, .inl (fun _ => 0)) fun a1 h2 =>
f_X3_init G h2 t_0 i_1 (some a1) (fun h3 =>
K h3)
theorem m_X3_init_2 {G : Gt} {h : Hp} {a0 : Nat} {i_1 : Int32} {K : Hp → Prop} (hG : Base G) (hf : f_X3_init_2 G h (some a0) i_1 K) : MM G Y_X3_init_2 cX3_init_2 2 1 3 [.ref a0, .int i_1] h (kV K) xN := by
  refine mm_of hG (by decide +kernel) rfl (ac_c rfl (ac_c rfl ac_nil)) (Nat.le_of_ble_eq_true rfl) (fun E _ _ => ?_)
  show V G E Y_X3_init_2 cX3_init_2 2 (QM G E (kV K) xN) h 1 3 0 [(0, .ref a0), (1, .int i_1)] []
  unfold f_X3_init_2 at hf
  refine v_qload_n (r := (some a0)) (i := 0) dX3_init_2_0 rfl rfl ?_
  refine v_iload_n (i := 1) dX3_init_2_1 rfl rfl ?_
  refine v_iconst (v := 3) dX3_init_2_2 (by decide) ?_
  refine v_newa (t := 0) (N := 3) (x := (3, .inl (fun _ => 0))) dX3_init_2_3 (Nat.le_of_ble_eq_true rfl) rfl q219 (fun _ => rfl) rfl (Nat.le_of_ble_eq_true rfl) (fun a1 ha1 => ?_)
  replace hf := hf a1 ha1
  obtain ⟨h2, eh2⟩ : ∃ z, z = hs h a1 (true, .inl (0, (3, .inl (fun _ => 0)))) := ⟨_, rfl⟩
  try rw [← eh2] at hf
  rw [← eh2]
  refine V.addK0 ?_
  refine V.addN0 ?_
  refine v_callI (mc := 0) (ms := 0) 2 dX3_init_2_5 (m_X3_init hG hf) rfl (lw_meth q411) rfl q100 q409 q410 rfl rfl (by decide +kernel) (by decide) rfl (cat_len (Nat.le_of_ble_eq_true rfl)) (kk_V fun h3 hg => ?_) (fun _ _ _ hx => hx.elim)
  replace hf := hg
  clear hg
  exact v_vret dX3_init_2_8 rfl ⟨rfl, hf⟩
abbrev Y_X3_isLit : Yt := (yX3_isLit, some (.boolean), 1, 40, [])
def f_X3_isLit (G : Gt) (h : Hp) (t_0 : Option Nat) (K : Int32 → Hp → Prop) : Prop :=
gI h t_0 3 1 fun i1 =>
((i1 ≤ 0 → K (0 : Int32) h) ∧
(¬ (i1 ≤ 0) → K (1 : Int32) h))
theorem m_X3_isLit {G : Gt} {h : Hp} {a0 : Nat} {K : Int32 → Hp → Prop} (hG : Base G) (hf : f_X3_isLit G h (some a0) K) : MM G Y_X3_isLit cX3_isLit 1 0 0 [.ref a0] h (kI K) xN := by
  refine mm_of hG (by decide +kernel) rfl (ac_c rfl ac_nil) (Nat.le_of_ble_eq_true rfl) (fun E _ _ => ?_)
  show V G E Y_X3_isLit cX3_isLit 1 (QM G E (kI K) xN) h 0 0 0 [(0, .ref a0)] []
  unfold f_X3_isLit at hf
  refine v_qload_n (r := (some a0)) (i := 0) dX3_isLit_0 rfl rfl ?_
  replace hf := gI_e hf
  obtain ⟨w2, fs3, i1, hh4, hk5, hf⟩ := hf
  refine v_getf (T := TX3) (ci := 3) 1 dX3_isLit_1 q415 rfl in_X3 (Nat.le_of_ble_eq_true rfl) (Or.inl rfl) hh4 hk5 ?_
  refine v_if_le 11 dX3_isLit_4 (by decide) (fun c6 => ?_) (fun c6 => ?_)
  · replace hf := hf.1 c6
    refine v_iconst (v := 0) dX3_isLit_11 (by decide) ?_
    exact v_zret dX3_isLit_12 rfl (by decide) ⟨_, rfl, hf⟩
  · replace hf := hf.2 c6
    refine v_iconst (v := 1) dX3_isLit_7 (by decide) ?_
    refine v_goto 12 dX3_isLit_8 (by decide) ?_
    exact v_zret dX3_isLit_12 rfl (by decide) ⟨_, rfl, hf⟩
abbrev Y_X3_steps : Yt := (yX3_steps, some (.int), 2, 60, [])
def f_X3_steps (G : Gt) (h : Hp) (t_0 : Option Nat) (K : Int32 → Hp → Prop) : Prop :=
rv h t_0 3 (f_X3_isLit G h t_0 (fun i5 h4 =>
((i5 = 0 → K (2 : Int32) h4) ∧
(¬ (i5 = 0) → K (1 : Int32) h4))))
theorem m_X3_steps {G : Gt} {h : Hp} {a0 : Nat} {K : Int32 → Hp → Prop} (hG : Base G) (hf : f_X3_steps G h (some a0) K) : MM G Y_X3_steps cX3_steps 1 0 0 [.ref a0] h (kI K) xN := by
  refine mm_of hG (by decide +kernel) rfl (ac_c rfl ac_nil) (Nat.le_of_ble_eq_true rfl) (fun E _ _ => ?_)
  show V G E Y_X3_steps cX3_steps 1 (QM G E (kI K) xN) h 0 0 0 [(0, .ref a0)] []
  unfold f_X3_steps at hf
  refine v_qload_n (r := (some a0)) (i := 0) dX3_steps_0 rfl rfl ?_
  replace hf := rv_e hf
  obtain ⟨w1, fs2, hh3, hf⟩ := hf
  refine V.addK0 ?_
  refine V.addN0 ?_
  refine v_callV (mc := 0) (ms := 0) 0 dX3_steps_1 (m_X3_isLit hG hf) rfl hh3 rfl (lw_V q1579 q1580 q1581 q100 q1582) rfl (by decide +kernel) (by decide) rfl (cat_len (Nat.le_of_ble_eq_true rfl)) (kk_I fun i5 h4 hg => ?_) (fun _ _ _ hx => hx.elim)
  replace hf := hg
  clear hg
  refine v_if_eq 11 dX3_steps_4 (by decide) (fun c6 => ?_) (fun c6 => ?_)
  · replace hf := hf.1 c6
    refine v_iconst (v := 2) dX3_steps_11 (by decide) ?_
    exact v_iret dX3_steps_12 rfl ⟨_, rfl, hf⟩
  · replace hf := hf.2 c6
    refine v_iconst (v := 1) dX3_steps_7 (by decide) ?_
    refine v_goto 12 dX3_steps_8 (by decide) ?_
    exact v_iret dX3_steps_12 rfl ⟨_, rfl, hf⟩
abbrev Y_J12_init_2_R : Yt := (yJ12_init_2, none, 1, 40, [])
def f_J12_init_2_R (G : Gt) (h : Hp) (t_0 : Option Nat) (r_1 : Option Nat) (r_2 : Option Nat) (i_3 : Int32) (i_4 : Int32) (K : Hp → Prop) : Prop :=
pF h t_0 4 0 (va_rf t_0) fun h3 =>
gS (g_r G 0) fun r4 =>
pF h3 t_0 4 1 (va_rf r4) fun h7 =>
gS (g_r G 1) fun r8 =>
pF h7 t_0 4 2 (va_rf r8) fun h11 =>
((i_4 = 0 → pF h11 t_0 4 1 (.null) fun h15 =>
pF h15 t_0 4 3 (va_rf r_1) fun h18 =>
pF h18 t_0 4 0 (va_rf r_2) fun h21 =>
((¬ (i_3 = 0) → K h21) ∧
(i_3 = 0 → pF h21 t_0 4 2 (.null) fun h25 =>
K h25))) ∧
(¬ (i_4 = 0) → False))
theorem m_J12_init_2_R {G : Gt} {h : Hp} {a0 : Nat} {r_1 : Option Nat} {r_2 : Option Nat} {i_3 : Int32} {i_4 : Int32} {K : Hp → Prop} (hG : Base G) (hf : f_J12_init_2_R G h (some a0) r_1 r_2 i_3 i_4 K) : MM G Y_J12_init_2_R cJ12_init_2 5 0 0 [.ref a0, va_rf r_1, va_rf r_2, .int i_3, .int i_4] h (kV K) xN := by
  refine mm_of hG (by decide +kernel) rfl (ac_c rfl (ac_c (rf_cat _) (ac_c (rf_cat _) (ac_c rfl (ac_c rfl ac_nil))))) (Nat.le_of_ble_eq_true rfl) (fun E _ _ => ?_)
  show V G E Y_J12_init_2_R cJ12_init_2 5 (QM G E (kV K) xN) h 0 0 0 [(0, .ref a0), (1, va_rf r_1), (2, va_rf r_2), (3, .int i_3), (4, .int i_4)] []
  unfold f_J12_init_2_R at hf
  refine v_qload_n (r := (some a0)) (i := 0) dJ12_init_2_0 rfl rfl ?_
  refine v_objInit dJ12_init_2_1 q537 q153 q154 (cat_len (Nat.le_of_ble_eq_true rfl)) (Nat.le_of_ble_eq_true rfl) (Nat.le_of_ble_eq_true rfl) ?_
  refine v_qload_n (r := (some a0)) (i := 0) dJ12_init_2_4 rfl rfl ?_
  refine v_qload_n (r := (some a0)) (i := 0) dJ12_init_2_5 rfl rfl ?_
  replace hf := pF_e hf
  obtain ⟨fs1, hh2, hf⟩ := hf
  refine v_putf (v := va_rf (some a0)) (T := TX4) (ci := 4) (ty := .object "java/lang/Throwable") 0 dJ12_init_2_6 q567 rfl in_X4 tyX4 tyX4_ok nmX4 (Nat.le_of_ble_eq_true rfl) (Or.inl rfl) rfl (by decide +kernel) (rf_nar _ _) (rf_fit _ _) hh2 ?_
  obtain ⟨h3, eh3⟩ : ∃ z, z = hs h a0 (true, .inr (4, fs1.set 0 (va_rf (some a0)))) := ⟨_, rfl⟩
  try rw [← eh3] at hf
  rw [← eh3]
  refine v_qload_n (r := (some a0)) (i := 0) dJ12_init_2_9 rfl rfl ?_
  refine v_gets dJ12_init_2_10 q538 (List.mem_of_getElem? (i := 1) rfl) (Or.inl rfl) ?_
  replace hf := gS_e hf
  obtain ⟨r4, er4, hf⟩ := hf
  rw [← er4]
  replace hf := pF_e hf
  obtain ⟨fs5, hh6, hf⟩ := hf
  refine v_putf (v := va_rf r4) (T := TX4) (ci := 4) (ty := .array (.object "java/lang/StackTraceElement")) 1 dJ12_init_2_13 q568 rfl in_X4 tyX4 tyX4_ok nmX4 (Nat.le_of_ble_eq_true rfl) (Or.inl rfl) rfl (by decide +kernel) (rf_narA _ _) (rf_fitA _ _) hh6 ?_
  obtain ⟨h7, eh7⟩ : ∃ z, z = hs h3 a0 (true, .inr (4, fs5.set 1 (va_rf r4))) := ⟨_, rfl⟩
  try rw [← eh7] at hf
  rw [← eh7]
  refine v_qload_n (r := (some a0)) (i := 0) dJ12_init_2_16 rfl rfl ?_
  refine v_gets dJ12_init_2_17 q540 (List.mem_of_getElem? (i := 2) rfl) (Or.inl rfl) ?_
  replace hf := gS_e hf
  obtain ⟨r8, er8, hf⟩ := hf
  rw [← er8]
  replace hf := pF_e hf
  obtain ⟨fs9, hh10, hf⟩ := hf
  refine v_putf (v := va_rf r8) (T := TX4) (ci := 4) (ty := .object "java/util/List") 2 dJ12_init_2_20 q569 rfl in_X4 tyX4 tyX4_ok nmX4 (Nat.le_of_ble_eq_true rfl) (Or.inl rfl) rfl (by decide +kernel) (rf_nar _ _) (rf_fit _ _) hh10 ?_
  obtain ⟨h11, eh11⟩ : ∃ z, z = hs h7 a0 (true, .inr (4, fs9.set 2 (va_rf r8))) := ⟨_, rfl⟩
  try rw [← eh11] at hf
  rw [← eh11]
  refine v_iload (i := 4) dJ12_init_2_23 rfl ?_
  refine v_if_eq 36 dJ12_init_2_25 (by decide) (fun c12 => ?_) (fun c12 => ?_)
  · replace hf := hf.1 c12
    refine v_qload_n (r := (some a0)) (i := 0) dJ12_init_2_36 rfl rfl ?_
    refine v_null dJ12_init_2_37 ?_
    replace hf := pF_e hf
    obtain ⟨fs13, hh14, hf⟩ := hf
    refine v_putf (v := .null) (T := TX4) (ci := 4) (ty := .array (.object "java/lang/StackTraceElement")) 1 dJ12_init_2_38 q568 rfl in_X4 tyX4 tyX4_ok nmX4 (Nat.le_of_ble_eq_true rfl) (Or.inl rfl) rfl (by decide +kernel) rfl rfl hh14 ?_
    obtain ⟨h15, eh15⟩ : ∃ z, z = hs h11 a0 (true, .inr (4, fs13.set 1 (.null))) := ⟨_, rfl⟩
    try rw [← eh15] at hf
    rw [← eh15]
    refine v_qload_n (r := (some a0)) (i := 0) dJ12_init_2_41 rfl rfl ?_
    refine v_qload_n (r := r_1) (i := 1) dJ12_init_2_42 rfl rfl ?_
    replace hf := pF_e hf
    obtain ⟨fs16, hh17, hf⟩ := hf
    refine v_putf (v := va_rf r_1) (T := TX4) (ci := 4) (ty := .object "java/lang/String") 3 dJ12_init_2_43 q566 rfl in_X4 tyX4 tyX4_ok nmX4 (Nat.le_of_ble_eq_true rfl) (Or.inl rfl) rfl (by decide +kernel) (rf_nar _ _) (rf_fit _ _) hh17 ?_
    obtain ⟨h18, eh18⟩ : ∃ z, z = hs h15 a0 (true, .inr (4, fs16.set 3 (va_rf r_1))) := ⟨_, rfl⟩
    try rw [← eh18] at hf
    rw [← eh18]
    refine v_qload_n (r := (some a0)) (i := 0) dJ12_init_2_46 rfl rfl ?_
    refine v_qload_n (r := r_2) (i := 2) dJ12_init_2_47 rfl rfl ?_
    replace hf := pF_e hf
    obtain ⟨fs19, hh20, hf⟩ := hf
    refine v_putf (v := va_rf r_2) (T := TX4) (ci := 4) (ty := .object "java/lang/Throwable") 0 dJ12_init_2_48 q567 rfl in_X4 tyX4 tyX4_ok nmX4 (Nat.le_of_ble_eq_true rfl) (Or.inl rfl) rfl (by decide +kernel) (rf_nar _ _) (rf_fit _ _) hh20 ?_
    obtain ⟨h21, eh21⟩ : ∃ z, z = hs h18 a0 (true, .inr (4, fs19.set 0 (va_rf r_2))) := ⟨_, rfl⟩
    try rw [← eh21] at hf
    rw [← eh21]
    refine v_iload_n (i := 3) dJ12_init_2_51 rfl rfl ?_
    refine v_if_ne 60 dJ12_init_2_52 (by decide) (fun c22 => ?_) (fun c22 => ?_)
    · replace hf := hf.1 c22
      exact v_vret dJ12_init_2_60 rfl ⟨rfl, hf⟩
    · replace hf := hf.2 c22
      refine v_qload_n (r := (some a0)) (i := 0) dJ12_init_2_55 rfl rfl ?_
      refine v_null dJ12_init_2_56 ?_
      replace hf := pF_e hf
      obtain ⟨fs23, hh24, hf⟩ := hf
      refine v_putf (v := .null) (T := TX4) (ci := 4) (ty := .object "java/util/List") 2 dJ12_init_2_57 q569 rfl in_X4 tyX4 tyX4_ok nmX4 (Nat.le_of_ble_eq_true rfl) (Or.inl rfl) rfl (by decide +kernel) rfl rfl hh24 ?_
      obtain ⟨h25, eh25⟩ : ∃ z, z = hs h21 a0 (true, .inr (4, fs23.set 2 (.null))) := ⟨_, rfl⟩
      try rw [← eh25] at hf
      rw [← eh25]
      exact v_vret dJ12_init_2_60 rfl ⟨rfl, hf⟩
  · replace hf := hf.2 c12
    refine v_qload_n (r := (some a0)) (i := 0) dJ12_init_2_28 rfl rfl ?_
    exact hf.elim
abbrev Y_J13_init_R : Yt := (yJ13_init, none, 2, 64, [])
def f_J13_init_R (G : Gt) (h : Hp) (t_0 : Option Nat) (r_1 : Option Nat) (r_2 : Option Nat) (i_3 : Int32) (i_4 : Int32) (K : Hp → Prop) : Prop :=
f_J12_init_2_R G h t_0 r_1 r_2 i_3 i_4 (fun h1 =>
K h1)
theorem m_J13_init_R {G : Gt} {h : Hp} {a0 : Nat} {r_1 : Option Nat} {r_2 : Option Nat} {i_3 : Int32} {i_4 : Int32} {K : Hp → Prop} (hG : Base G) (hf : f_J13_init_R G h (some a0) r_1 r_2 i_3 i_4 K) : MM G Y_J13_init_R cJ13_init 5 0 0 [.ref a0, va_rf r_1, va_rf r_2, .int i_3, .int i_4] h (kV K) xN := by
  refine mm_of hG (by decide +kernel) rfl (ac_c rfl (ac_c (rf_cat _) (ac_c (rf_cat _) (ac_c rfl (ac_c rfl ac_nil))))) (Nat.le_of_ble_eq_true rfl) (fun E _ _ => ?_)
  show V G E Y_J13_init_R cJ13_init 5 (QM G E (kV K) xN) h 0 0 0 [(0, .ref a0), (1, va_rf r_1), (2, va_rf r_2), (3, .int i_3), (4, .int i_4)] []
  unfold f_J13_init_R at hf
  refine v_qload_n (r := (some a0)) (i := 0) dJ13_init_0 rfl rfl ?_
  refine v_qload_n (r := r_1) (i := 1) dJ13_init_1 rfl rfl ?_
  refine v_qload_n (r := r_2) (i := 2) dJ13_init_2 rfl rfl ?_
  refine v_iload_n (i := 3) dJ13_init_3 rfl rfl ?_
  refine v_iload (i := 4) dJ13_init_4 rfl ?_
  refine V.addK0 ?_
  refine V.addN0 ?_
  refine v_callI (mc := 0) (ms := 0) 4 dJ13_init_6 (m_J12_init_2_R hG hf) rfl (lw_meth q560) rfl q105 q558 q559 rfl rfl (by decide +kernel) (by decide) rfl (cat_len (Nat.le_of_ble_eq_true rfl)) (kk_V fun h1 hg => ?_) (fun _ _ _ hx => hx.elim)
  replace hf := hg
  clear hg
  exact v_vret dJ13_init_9 rfl ⟨rfl, hf⟩
abbrev Y_X4_init : Yt := (yX4_init, none, 3, 88, [])
def f_X4_init (G : Gt) (h : Hp) (t_0 : Option Nat) (i_1 : Int32) (i_2 : Int32) (K : Hp → Prop) : Prop :=
f_J13_init_R G h t_0 none none (0 : Int32) (0 : Int32) (fun h1 =>
pF h1 t_0 4 6 (.int i_1) fun h4 =>
pF h4 t_0 4 7 (.int i_2) fun h7 =>
K h7)
theorem m_X4_init {G : Gt} {h : Hp} {a0 : Nat} {i_1 : Int32} {i_2 : Int32} {K : Hp → Prop} (hG : Base G) (hf : f_X4_init G h (some a0) i_1 i_2 K) : MM G Y_X4_init cX4_init 3 0 0 [.ref a0, .int i_1, .int i_2] h (kV K) xN := by
  refine mm_of hG (by decide +kernel) rfl (ac_c rfl (ac_c rfl (ac_c rfl ac_nil))) (Nat.le_of_ble_eq_true rfl) (fun E _ _ => ?_)
  show V G E Y_X4_init cX4_init 3 (QM G E (kV K) xN) h 0 0 0 [(0, .ref a0), (1, .int i_1), (2, .int i_2)] []
  unfold f_X4_init at hf
  refine v_qload_n (r := (some a0)) (i := 0) dX4_init_0 rfl rfl ?_
  refine v_null dX4_init_1 ?_
  refine v_null dX4_init_2 ?_
  refine v_iconst (v := 0) dX4_init_3 (by decide) ?_
  refine v_iconst (v := 0) dX4_init_4 (by decide) ?_
  refine V.addK0 ?_
  refine V.addN0 ?_
  refine v_callI (mc := 0) (ms := 0) 4 dX4_init_5 (m_J13_init_R hG hf) rfl (lw_meth q557) rfl q106 q555 q556 rfl rfl (by decide +kernel) (by decide) rfl (cat_len (Nat.le_of_ble_eq_true rfl)) (kk_V fun h1 hg => ?_) (fun _ _ _ hx => hx.elim)
  replace hf := hg
  clear hg
  refine v_qload_n (r := (some a0)) (i := 0) dX4_init_8 rfl rfl ?_
  refine v_iload_n (i := 1) dX4_init_9 rfl rfl ?_
  replace hf := pF_e hf
  obtain ⟨fs2, hh3, hf⟩ := hf
  refine v_putfF (v := .int i_1) (T := TX4) (ci := 4) (ty := .int) 6 dX4_init_10 q561 rfl in_X4 tyX4 tyX4_ok nmX4 (Nat.le_of_ble_eq_true rfl) (Or.inl rfl) rfl rfl rfl (by decide +kernel) rfl rfl hh3 ?_
  obtain ⟨h4, eh4⟩ : ∃ z, z = hs h1 a0 (true, .inr (4, fs2.set 6 (.int i_1))) := ⟨_, rfl⟩
  try rw [← eh4] at hf
  rw [← eh4]
  refine v_qload_n (r := (some a0)) (i := 0) dX4_init_13 rfl rfl ?_
  refine v_iload_n (i := 2) dX4_init_14 rfl rfl ?_
  replace hf := pF_e hf
  obtain ⟨fs5, hh6, hf⟩ := hf
  refine v_putfF (v := .int i_2) (T := TX4) (ci := 4) (ty := .int) 7 dX4_init_15 q563 rfl in_X4 tyX4 tyX4_ok nmX4 (Nat.le_of_ble_eq_true rfl) (Or.inl rfl) rfl rfl rfl (by decide +kernel) rfl rfl hh6 ?_
  obtain ⟨h7, eh7⟩ : ∃ z, z = hs h4 a0 (true, .inr (4, fs5.set 7 (.int i_2))) := ⟨_, rfl⟩
  try rw [← eh7] at hf
  rw [← eh7]
  exact v_vret dX4_init_18 rfl ⟨rfl, hf⟩
abbrev Y_X5_isAt : Yt := (yX5_isAt, some (.boolean), 1, 40, [])
def f_X5_isAt (G : Gt) (h : Hp) (t_0 : Option Nat) (i_1 : Int32) (K : Int32 → Hp → Prop) : Prop :=
gI h t_0 5 0 fun i1 =>
((i1 = i_1 → K (1 : Int32) h) ∧
(¬ (i1 = i_1) → gI h t_0 5 1 fun i7 =>
((¬ (i7 = i_1) → K (0 : Int32) h) ∧
(i7 = i_1 → K (1 : Int32) h))))
theorem m_X5_isAt {G : Gt} {h : Hp} {a0 : Nat} {i_1 : Int32} {K : Int32 → Hp → Prop} (hG : Base G) (hf : f_X5_isAt G h (some a0) i_1 K) : MM G Y_X5_isAt cX5_isAt 2 0 0 [.ref a0, .int i_1] h (kI K) xN := by
  refine mm_of hG (by decide +kernel) rfl (ac_c rfl (ac_c rfl ac_nil)) (Nat.le_of_ble_eq_true rfl) (fun E _ _ => ?_)
  show V G E Y_X5_isAt cX5_isAt 2 (QM G E (kI K) xN) h 0 0 0 [(0, .ref a0), (1, .int i_1)] []
  unfold f_X5_isAt at hf
  refine v_qload_n (r := (some a0)) (i := 0) dX5_isAt_0 rfl rfl ?_
  replace hf := gI_e hf
  obtain ⟨w2, fs3, i1, hh4, hk5, hf⟩ := hf
  refine v_getf (T := TX5) (ci := 5) 0 dX5_isAt_1 q692 rfl in_X5 (Nat.le_of_ble_eq_true rfl) (Or.inl rfl) hh4 hk5 ?_
  refine v_iload_n (i := 1) dX5_isAt_4 rfl rfl ?_
  refine v_icmp_eq 16 dX5_isAt_5 (by decide) (fun c6 => ?_) (fun c6 => ?_)
  · replace hf := hf.1 c6
    refine v_iconst (v := 1) dX5_isAt_16 (by decide) ?_
    refine v_goto 21 dX5_isAt_17 (by decide) ?_
    exact v_zret dX5_isAt_21 rfl (by decide) ⟨_, rfl, hf⟩
  · replace hf := hf.2 c6
    refine v_qload_n (r := (some a0)) (i := 0) dX5_isAt_8 rfl rfl ?_
    replace hf := gI_e hf
    obtain ⟨w8, fs9, i7, hh10, hk11, hf⟩ := hf
    refine v_getf (T := TX5) (ci := 5) 1 dX5_isAt_9 q694 rfl in_X5 (Nat.le_of_ble_eq_true rfl) (Or.inl rfl) hh10 hk11 ?_
    refine v_iload_n (i := 1) dX5_isAt_12 rfl rfl ?_
    refine v_icmp_ne 20 dX5_isAt_13 (by decide) (fun c12 => ?_) (fun c12 => ?_)
    · replace hf := hf.1 c12
      refine v_iconst (v := 0) dX5_isAt_20 (by decide) ?_
      exact v_zret dX5_isAt_21 rfl (by decide) ⟨_, rfl, hf⟩
    · replace hf := hf.2 c12
      refine v_iconst (v := 1) dX5_isAt_16 (by decide) ?_
      refine v_goto 21 dX5_isAt_17 (by decide) ?_
      exact v_zret dX5_isAt_21 rfl (by decide) ⟨_, rfl, hf⟩
abbrev Y_X5_isBetween : Yt := (yX5_isBetween, some (.boolean), 2, 61, [])
def f_X5_isBetween (G : Gt) (h : Hp) (t_0 : Option Nat) (i_1 : Int32) (i_2 : Int32) (K : Int32 → Hp → Prop) : Prop :=
rv h t_0 5 (f_X5_isAt G h t_0 i_1 (fun i5 h4 =>
((i5 = 0 → K (0 : Int32) h4) ∧
(¬ (i5 = 0) → rv h4 t_0 5 (f_X5_isAt G h4 t_0 i_2 (fun i11 h10 =>
((i11 = 0 → K (0 : Int32) h10) ∧
(¬ (i11 = 0) → K (1 : Int32) h10))))))))
theorem m_X5_isBetween {G : Gt} {h : Hp} {a0 : Nat} {i_1 : Int32} {i_2 : Int32} {K : Int32 → Hp → Prop} (hG : Base G) (hf : f_X5_isBetween G h (some a0) i_1 i_2 K) : MM G Y_X5_isBetween cX5_isBetween 3 0 0 [.ref a0, .int i_1, .int i_2] h (kI K) xN := by
  refine mm_of hG (by decide +kernel) rfl (ac_c rfl (ac_c rfl (ac_c rfl ac_nil))) (Nat.le_of_ble_eq_true rfl) (fun E _ _ => ?_)
  show V G E Y_X5_isBetween cX5_isBetween 3 (QM G E (kI K) xN) h 0 0 0 [(0, .ref a0), (1, .int i_1), (2, .int i_2)] []
  unfold f_X5_isBetween at hf
  refine v_qload_n (r := (some a0)) (i := 0) dX5_isBetween_0 rfl rfl ?_
  refine v_iload_n (i := 1) dX5_isBetween_1 rfl rfl ?_
  replace hf := rv_e hf
  obtain ⟨w1, fs2, hh3, hf⟩ := hf
  refine V.addK0 ?_
  refine V.addN0 ?_
  refine v_callV (mc := 0) (ms := 0) 1 dX5_isBetween_2 (m_X5_isAt hG hf) rfl hh3 rfl (lw_V q678 q679 q680 q110 q681) rfl (by decide +kernel) (by decide) rfl (cat_len (Nat.le_of_ble_eq_true rfl)) (kk_I fun i5 h4 hg => ?_) (fun _ _ _ hx => hx.elim)
  replace hf := hg
  clear hg
  refine v_if_eq 20 dX5_isBetween_5 (by decide) (fun c6 => ?_) (fun c6 => ?_)
  · replace hf := hf.1 c6
    refine v_iconst (v := 0) dX5_isBetween_20 (by decide) ?_
    exact v_zret dX5_isBetween_21 rfl (by decide) ⟨_, rfl, hf⟩
  · replace hf := hf.2 c6
    refine v_qload_n (r := (some a0)) (i := 0) dX5_isBetween_8 rfl rfl ?_
    refine v_iload_n (i := 2) dX5_isBetween_9 rfl rfl ?_
    replace hf := rv_e hf
    obtain ⟨w7, fs8, hh9, hf⟩ := hf
    refine V.addK0 ?_
    refine V.addN0 ?_
    refine v_callV (mc := 0) (ms := 0) 1 dX5_isBetween_10 (m_X5_isAt hG hf) rfl hh9 rfl (lw_V q678 q679 q680 q110 q681) rfl (by decide +kernel) (by decide) rfl (cat_len (Nat.le_of_ble_eq_true rfl)) (kk_I fun i11 h10 hg => ?_) (fun _ _ _ hx => hx.elim)
    replace hf := hg
    clear hg
    refine v_if_eq 20 dX5_isBetween_13 (by decide) (fun c12 => ?_) (fun c12 => ?_)
    · replace hf := hf.1 c12
      refine v_iconst (v := 0) dX5_isBetween_20 (by decide) ?_
      exact v_zret dX5_isBetween_21 rfl (by decide) ⟨_, rfl, hf⟩
    · replace hf := hf.2 c12
      refine v_iconst (v := 1) dX5_isBetween_16 (by decide) ?_
      refine v_goto 21 dX5_isBetween_17 (by decide) ?_
      exact v_zret dX5_isBetween_21 rfl (by decide) ⟨_, rfl, hf⟩
abbrev Y_J10_min : Yt := (yJ10_min, some (.int), 1, 40, [])
def f_J10_min (G : Gt) (h : Hp) (i_0 : Int32) (i_1 : Int32) (K : Int32 → Hp → Prop) : Prop :=
((i_1 < i_0 → K i_1 h) ∧
(¬ (i_1 < i_0) → K i_0 h))
theorem m_J10_min {G : Gt} {h : Hp} {i_0 : Int32} {i_1 : Int32} {K : Int32 → Hp → Prop} (hG : Base G) (hf : f_J10_min G h i_0 i_1 K) : MM G Y_J10_min cJ10_min 2 0 0 [.int i_0, .int i_1] h (kI K) xN := by
  refine mm_of hG (by decide +kernel) rfl (ac_c rfl (ac_c rfl ac_nil)) (Nat.le_of_ble_eq_true rfl) (fun E _ _ => ?_)
  show V G E Y_J10_min cJ10_min 2 (QM G E (kI K) xN) h 0 0 0 [(0, .int i_0), (1, .int i_1)] []
  unfold f_J10_min at hf
  refine v_iload_n (i := 0) dJ10_min_0 rfl rfl ?_
  refine v_iload_n (i := 1) dJ10_min_1 rfl rfl ?_
  refine v_icmp_gt 9 dJ10_min_2 (by decide) (fun c1 => ?_) (fun c1 => ?_)
  · replace hf := hf.1 c1
    refine v_iload_n (i := 1) dJ10_min_9 rfl rfl ?_
    exact v_iret dJ10_min_10 rfl ⟨_, rfl, hf⟩
  · replace hf := hf.2 c1
    refine v_iload_n (i := 0) dJ10_min_5 rfl rfl ?_
    refine v_goto 10 dJ10_min_6 (by decide) ?_
    exact v_iret dJ10_min_10 rfl ⟨_, rfl, hf⟩
abbrev Y_J10_max : Yt := (yJ10_max, some (.int), 1, 40, [])
def f_J10_max (G : Gt) (h : Hp) (i_0 : Int32) (i_1 : Int32) (K : Int32 → Hp → Prop) : Prop :=
((i_0 < i_1 → K i_1 h) ∧
(¬ (i_0 < i_1) → K i_0 h))
theorem m_J10_max {G : Gt} {h : Hp} {i_0 : Int32} {i_1 : Int32} {K : Int32 → Hp → Prop} (hG : Base G) (hf : f_J10_max G h i_0 i_1 K) : MM G Y_J10_max cJ10_max 2 0 0 [.int i_0, .int i_1] h (kI K) xN := by
  refine mm_of hG (by decide +kernel) rfl (ac_c rfl (ac_c rfl ac_nil)) (Nat.le_of_ble_eq_true rfl) (fun E _ _ => ?_)
  show V G E Y_J10_max cJ10_max 2 (QM G E (kI K) xN) h 0 0 0 [(0, .int i_0), (1, .int i_1)] []
  unfold f_J10_max at hf
  refine v_iload_n (i := 0) dJ10_max_0 rfl rfl ?_
  refine v_iload_n (i := 1) dJ10_max_1 rfl rfl ?_
  refine v_icmp_lt 9 dJ10_max_2 (by decide) (fun c1 => ?_) (fun c1 => ?_)
  · replace hf := hf.1 c1
    refine v_iload_n (i := 1) dJ10_max_9 rfl rfl ?_
    exact v_iret dJ10_max_10 rfl ⟨_, rfl, hf⟩
  · replace hf := hf.2 c1
    refine v_iload_n (i := 0) dJ10_max_5 rfl rfl ?_
    refine v_goto 10 dJ10_max_6 (by decide) ?_
    exact v_iret dJ10_max_10 rfl ⟨_, rfl, hf⟩
abbrev Y_X5_init_2 : Yt := (yX5_init_2, none, 1, 40, [])
def f_X5_init_2 (G : Gt) (h : Hp) (t_0 : Option Nat) (i_1 : Int32) (i_2 : Int32) (i_3 : Int32) (i_4 : Int32) (i_5 : Int32) (i_6 : Int32) (K : Hp → Prop) : Prop :=
pF h t_0 5 0 (.int i_1) fun h3 =>
pF h3 t_0 5 1 (.int i_2) fun h6 =>
pF h6 t_0 5 2 (.int i_3) fun h9 =>
pF h9 t_0 5 3 (.int i_4) fun h12 =>
((narrow .boolean (.int i_5) = .int i_5 ∧ fits .boolean (.int i_5) = true) ∧ pF h12 t_0 5 4 (.int i_5) fun h15 =>
pF h15 t_0 5 5 (.int i_6) fun h18 =>
K h18)
theorem m_X5_init_2 {G : Gt} {h : Hp} {a0 : Nat} {i_1 : Int32} {i_2 : Int32} {i_3 : Int32} {i_4 : Int32} {i_5 : Int32} {i_6 : Int32} {K : Hp → Prop} (hG : Base G) (hf : f_X5_init_2 G h (some a0) i_1 i_2 i_3 i_4 i_5 i_6 K) : MM G Y_X5_init_2 cX5_init_2 7 0 0 [.ref a0, .int i_1, .int i_2, .int i_3, .int i_4, .int i_5, .int i_6] h (kV K) xN := by
  refine mm_of hG (by decide +kernel) rfl (ac_c rfl (ac_c rfl (ac_c rfl (ac_c rfl (ac_c rfl (ac_c rfl (ac_c rfl ac_nil))))))) (Nat.le_of_ble_eq_true rfl) (fun E _ _ => ?_)
  show V G E Y_X5_init_2 cX5_init_2 7 (QM G E (kV K) xN) h 0 0 0 [(0, .ref a0), (1, .int i_1), (2, .int i_2), (3, .int i_3), (4, .int i_4), (5, .int i_5), (6, .int i_6)] []
  unfold f_X5_init_2 at hf
  refine v_qload_n (r := (some a0)) (i := 0) dX5_init_2_0 rfl rfl ?_
  refine v_objInit dX5_init_2_1 q691 q153 q154 (cat_len (Nat.le_of_ble_eq_true rfl)) (Nat.le_of_ble_eq_true rfl) (Nat.le_of_ble_eq_true rfl) ?_
  refine v_qload_n (r := (some a0)) (i := 0) dX5_init_2_4 rfl rfl ?_
  refine v_iload_n (i := 1) dX5_init_2_5 rfl rfl ?_
  replace hf := pF_e hf
  obtain ⟨fs1, hh2, hf⟩ := hf
  refine v_putfF (v := .int i_1) (T := TX5) (ci := 5) (ty := .int) 0 dX5_init_2_6 q692 rfl in_X5 tyX5 tyX5_ok nmX5 (Nat.le_of_ble_eq_true rfl) (Or.inl rfl) rfl rfl rfl (by decide +kernel) rfl rfl hh2 ?_
  obtain ⟨h3, eh3⟩ : ∃ z, z = hs h a0 (true, .inr (5, fs1.set 0 (.int i_1))) := ⟨_, rfl⟩
  try rw [← eh3] at hf
  rw [← eh3]
  refine v_qload_n (r := (some a0)) (i := 0) dX5_init_2_9 rfl rfl ?_
  refine v_iload_n (i := 2) dX5_init_2_10 rfl rfl ?_
  replace hf := pF_e hf
  obtain ⟨fs4, hh5, hf⟩ := hf
  refine v_putfF (v := .int i_2) (T := TX5) (ci := 5) (ty := .int) 1 dX5_init_2_11 q694 rfl in_X5 tyX5 tyX5_ok nmX5 (Nat.le_of_ble_eq_true rfl) (Or.inl rfl) rfl rfl rfl (by decide +kernel) rfl rfl hh5 ?_
  obtain ⟨h6, eh6⟩ : ∃ z, z = hs h3 a0 (true, .inr (5, fs4.set 1 (.int i_2))) := ⟨_, rfl⟩
  try rw [← eh6] at hf
  rw [← eh6]
  refine v_qload_n (r := (some a0)) (i := 0) dX5_init_2_14 rfl rfl ?_
  refine v_iload_n (i := 3) dX5_init_2_15 rfl rfl ?_
  replace hf := pF_e hf
  obtain ⟨fs7, hh8, hf⟩ := hf
  refine v_putfF (v := .int i_3) (T := TX5) (ci := 5) (ty := .int) 2 dX5_init_2_16 q696 rfl in_X5 tyX5 tyX5_ok nmX5 (Nat.le_of_ble_eq_true rfl) (Or.inl rfl) rfl rfl rfl (by decide +kernel) rfl rfl hh8 ?_
  obtain ⟨h9, eh9⟩ : ∃ z, z = hs h6 a0 (true, .inr (5, fs7.set 2 (.int i_3))) := ⟨_, rfl⟩
  try rw [← eh9] at hf
  rw [← eh9]
  refine v_qload_n (r := (some a0)) (i := 0) dX5_init_2_19 rfl rfl ?_
  refine v_iload (i := 4) dX5_init_2_20 rfl ?_
  replace hf := pF_e hf
  obtain ⟨fs10, hh11, hf⟩ := hf
  refine v_putfF (v := .int i_4) (T := TX5) (ci := 5) (ty := .int) 3 dX5_init_2_22 q697 rfl in_X5 tyX5 tyX5_ok nmX5 (Nat.le_of_ble_eq_true rfl) (Or.inl rfl) rfl rfl rfl (by decide +kernel) rfl rfl hh11 ?_
  obtain ⟨h12, eh12⟩ : ∃ z, z = hs h9 a0 (true, .inr (5, fs10.set 3 (.int i_4))) := ⟨_, rfl⟩
  try rw [← eh12] at hf
  rw [← eh12]
  refine v_qload_n (r := (some a0)) (i := 0) dX5_init_2_25 rfl rfl ?_
  refine v_iload (i := 5) dX5_init_2_26 rfl ?_
  obtain ⟨hnr, hf⟩ := hf
  replace hf := pF_e hf
  obtain ⟨fs13, hh14, hf⟩ := hf
  refine v_putfF (v := .int i_5) (T := TX5) (ci := 5) (ty := .boolean) 4 dX5_init_2_28 q699 rfl in_X5 tyX5 tyX5_ok nmX5 (Nat.le_of_ble_eq_true rfl) (Or.inl rfl) rfl rfl rfl (by decide +kernel) hnr.1 hnr.2 hh14 ?_
  obtain ⟨h15, eh15⟩ : ∃ z, z = hs h12 a0 (true, .inr (5, fs13.set 4 (.int i_5))) := ⟨_, rfl⟩
  try rw [← eh15] at hf
  rw [← eh15]
  refine v_qload_n (r := (some a0)) (i := 0) dX5_init_2_31 rfl rfl ?_
  refine v_iload (i := 6) dX5_init_2_32 rfl ?_
  replace hf := pF_e hf
  obtain ⟨fs16, hh17, hf⟩ := hf
  refine v_putfF (v := .int i_6) (T := TX5) (ci := 5) (ty := .int) 5 dX5_init_2_34 q701 rfl in_X5 tyX5 tyX5_ok nmX5 (Nat.le_of_ble_eq_true rfl) (Or.inl rfl) rfl rfl rfl (by decide +kernel) rfl rfl hh17 ?_
  obtain ⟨h18, eh18⟩ : ∃ z, z = hs h15 a0 (true, .inr (5, fs16.set 5 (.int i_6))) := ⟨_, rfl⟩
  try rw [← eh18] at hf
  rw [← eh18]
  exact v_vret dX5_init_2_37 rfl ⟨rfl, hf⟩
abbrev Y_X5_init : Yt := (yX5_init, none, 2, 66, [])
def f_X5_init (G : Gt) (h : Hp) (t_0 : Option Nat) (i_1 : Int32) (i_2 : Int32) (i_3 : Int32) (i_4 : Int32) (K : Hp → Prop) : Prop :=
f_J10_min G h i_1 i_2 (fun i2 h1 =>
f_J10_max G h1 i_1 i_2 (fun i4 h3 =>
((i_4 = (-1 : Int32) → f_X5_init_2 G h3 t_0 i2 i4 i_3 i_4 (0 : Int32) (0 : Int32) (fun h6 =>
K h6)) ∧
(¬ (i_4 = (-1 : Int32)) → f_X5_init_2 G h3 t_0 i2 i4 i_3 i_4 (1 : Int32) (0 : Int32) (fun h7 =>
K h7)))))
theorem m_X5_init {G : Gt} {h : Hp} {a0 : Nat} {i_1 : Int32} {i_2 : Int32} {i_3 : Int32} {i_4 : Int32} {K : Hp → Prop} (hG : Base G) (hf : f_X5_init G h (some a0) i_1 i_2 i_3 i_4 K) : MM G Y_X5_init cX5_init 5 0 0 [.ref a0, .int i_1, .int i_2, .int i_3, .int i_4] h (kV K) xN := by
  refine mm_of hG (by decide +kernel) rfl (ac_c rfl (ac_c rfl (ac_c rfl (ac_c rfl (ac_c rfl ac_nil))))) (Nat.le_of_ble_eq_true rfl) (fun E _ _ => ?_)
  show V G E Y_X5_init cX5_init 5 (QM G E (kV K) xN) h 0 0 0 [(0, .ref a0), (1, .int i_1), (2, .int i_2), (3, .int i_3), (4, .int i_4)] []
  unfold f_X5_init at hf
  refine v_qload_n (r := (some a0)) (i := 0) dX5_init_0 rfl rfl ?_
  refine v_iload_n (i := 1) dX5_init_1 rfl rfl ?_
  refine v_iload_n (i := 2) dX5_init_2 rfl rfl ?_
  refine V.addK0 ?_
  refine V.addN0 ?_
  refine v_callS (mc := 0) (ms := 0) 2 dX5_init_3 (m_J10_min hG hf) rfl (lw_S q686 q493 q102 q494) rfl (by decide +kernel) (by decide) rfl (cat_len (Nat.le_of_ble_eq_true rfl)) (kk_I fun i2 h1 hg => ?_) (fun _ _ _ hx => hx.elim)
  replace hf := hg
  clear hg
  refine v_iload_n (i := 1) dX5_init_6 rfl rfl ?_
  refine v_iload_n (i := 2) dX5_init_7 rfl rfl ?_
  refine V.addK0 ?_
  refine V.addN0 ?_
  refine v_callS (mc := 0) (ms := 0) 2 dX5_init_8 (m_J10_max hG hf) rfl (lw_S q687 q444 q102 q445) rfl (by decide +kernel) (by decide) rfl (cat_len (Nat.le_of_ble_eq_true rfl)) (kk_I fun i4 h3 hg => ?_) (fun _ _ _ hx => hx.elim)
  replace hf := hg
  clear hg
  refine v_iload_n (i := 3) dX5_init_11 rfl rfl ?_
  refine v_iload (i := 4) dX5_init_12 rfl ?_
  refine v_iload (i := 4) dX5_init_14 rfl ?_
  refine v_iconst (v := -1) dX5_init_16 (by decide) ?_
  refine v_icmp_eq 24 dX5_init_17 (by decide) (fun c5 => ?_) (fun c5 => ?_)
  · replace hf := hf.1 c5
    refine v_iconst (v := 0) dX5_init_24 (by decide) ?_
    refine v_iconst (v := 0) dX5_init_25 (by decide) ?_
    refine V.addK0 ?_
    refine V.addN0 ?_
    refine v_callI (mc := 0) (ms := 0) 6 dX5_init_26 (m_X5_init_2 hG hf) rfl (lw_meth q690) rfl q110 q688 q689 rfl rfl (by decide +kernel) (by decide) rfl (cat_len (Nat.le_of_ble_eq_true rfl)) (kk_V fun h6 hg => ?_) (fun _ _ _ hx => hx.elim)
    replace hf := hg
    clear hg
    exact v_vret dX5_init_29 rfl ⟨rfl, hf⟩
  · replace hf := hf.2 c5
    refine v_iconst (v := 1) dX5_init_20 (by decide) ?_
    refine v_goto 25 dX5_init_21 (by decide) ?_
    refine v_iconst (v := 0) dX5_init_25 (by decide) ?_
    refine V.addK0 ?_
    refine V.addN0 ?_
    refine v_callI (mc := 0) (ms := 0) 6 dX5_init_26 (m_X5_init_2 hG hf) rfl (lw_meth q690) rfl q110 q688 q689 rfl rfl (by decide +kernel) (by decide) rfl (cat_len (Nat.le_of_ble_eq_true rfl)) (kk_V fun h7 hg => ?_) (fun _ _ _ hx => hx.elim)
    replace hf := hg
    clear hg
    exact v_vret dX5_init_29 rfl ⟨rfl, hf⟩
abbrev Y_X5_isFor : Yt := (yX5_isFor, some (.boolean), 1, 40, [])
def f_X5_isFor (G : Gt) (h : Hp) (t_0 : Option Nat) (i_1 : Int32) (K : Int32 → Hp → Prop) : Prop :=
gI h t_0 5 2 fun i1 =>
((i1 = 0 → K (1 : Int32) h) ∧
(¬ (i1 = 0) → gI h t_0 5 2 fun i7 =>
((¬ (i7 = (1 : Int32)) → ((¬ (i_1 - i_1 / (2 : Int32) * (2 : Int32) = (1 : Int32)) → ((¬ ((0 : Int32) = (0 : Int32)) → K (0 : Int32) h) ∧
((0 : Int32) = (0 : Int32) → K (1 : Int32) h))) ∧
(i_1 - i_1 / (2 : Int32) * (2 : Int32) = (1 : Int32) → ((¬ ((0 : Int32) = (1 : Int32)) → K (0 : Int32) h) ∧
((0 : Int32) = (1 : Int32) → K (1 : Int32) h))))) ∧
(i7 = (1 : Int32) → ((¬ (i_1 - i_1 / (2 : Int32) * (2 : Int32) = (1 : Int32)) → ((¬ ((1 : Int32) = (0 : Int32)) → K (0 : Int32) h) ∧
((1 : Int32) = (0 : Int32) → K (1 : Int32) h))) ∧
(i_1 - i_1 / (2 : Int32) * (2 : Int32) = (1 : Int32) → ((¬ ((1 : Int32) = (1 : Int32)) → K (0 : Int32) h) ∧
((1 : Int32) = (1 : Int32) → K (1 : Int32) h))))))))
theorem m_X5_isFor {G : Gt} {h : Hp} {a0 : Nat} {i_1 : Int32} {K : Int32 → Hp → Prop} (hG : Base G) (hf : f_X5_isFor G h (some a0) i_1 K) : MM G Y_X5_isFor cX5_isFor 2 0 0 [.ref a0, .int i_1] h (kI K) xN := by
  refine mm_of hG (by decide +kernel) rfl (ac_c rfl (ac_c rfl ac_nil)) (Nat.le_of_ble_eq_true rfl) (fun E _ _ => ?_)
  show V G E Y_X5_isFor cX5_isFor 2 (QM G E (kI K) xN) h 0 0 0 [(0, .ref a0), (1, .int i_1)] []
  unfold f_X5_isFor at hf
  refine v_qload_n (r := (some a0)) (i := 0) dX5_isFor_0 rfl rfl ?_
  replace hf := gI_e hf
  obtain ⟨w2, fs3, i1, hh4, hk5, hf⟩ := hf
  refine v_getf (T := TX5) (ci := 5) 2 dX5_isFor_1 q696 rfl in_X5 (Nat.le_of_ble_eq_true rfl) (Or.inl rfl) hh4 hk5 ?_
  refine v_if_eq 35 dX5_isFor_4 (by decide) (fun c6 => ?_) (fun c6 => ?_)
  · replace hf := hf.1 c6
    refine v_iconst (v := 1) dX5_isFor_35 (by decide) ?_
    refine v_goto 40 dX5_isFor_36 (by decide) ?_
    exact v_zret dX5_isFor_40 rfl (by decide) ⟨_, rfl, hf⟩
  · replace hf := hf.2 c6
    refine v_qload_n (r := (some a0)) (i := 0) dX5_isFor_7 rfl rfl ?_
    replace hf := gI_e hf
    obtain ⟨w8, fs9, i7, hh10, hk11, hf⟩ := hf
    refine v_getf (T := TX5) (ci := 5) 2 dX5_isFor_8 q696 rfl in_X5 (Nat.le_of_ble_eq_true rfl) (Or.inl rfl) hh10 hk11 ?_
    refine v_iconst (v := 1) dX5_isFor_11 (by decide) ?_
    refine v_icmp_ne 19 dX5_isFor_12 (by decide) (fun c12 => ?_) (fun c12 => ?_)
    · replace hf := hf.1 c12
      refine v_iconst (v := 0) dX5_isFor_19 (by decide) ?_
      refine v_iload_n (i := 1) dX5_isFor_20 rfl rfl ?_
      refine v_iconst (v := 2) dX5_isFor_21 (by decide) ?_
      refine v_irem dX5_isFor_22 (by decide) ?_
      refine v_iconst (v := 1) dX5_isFor_23 (by decide) ?_
      refine v_icmp_ne 31 dX5_isFor_24 (by decide) (fun c13 => ?_) (fun c13 => ?_)
      · replace hf := hf.1 c13
        refine v_iconst (v := 0) dX5_isFor_31 (by decide) ?_
        refine v_icmp_ne 39 dX5_isFor_32 (by decide) (fun c14 => ?_) (fun c14 => ?_)
        · replace hf := hf.1 c14
          refine v_iconst (v := 0) dX5_isFor_39 (by decide) ?_
          exact v_zret dX5_isFor_40 rfl (by decide) ⟨_, rfl, hf⟩
        · replace hf := hf.2 c14
          refine v_iconst (v := 1) dX5_isFor_35 (by decide) ?_
          refine v_goto 40 dX5_isFor_36 (by decide) ?_
          exact v_zret dX5_isFor_40 rfl (by decide) ⟨_, rfl, hf⟩
      · replace hf := hf.2 c13
        refine v_iconst (v := 1) dX5_isFor_27 (by decide) ?_
        refine v_goto 32 dX5_isFor_28 (by decide) ?_
        refine v_icmp_ne 39 dX5_isFor_32 (by decide) (fun c15 => ?_) (fun c15 => ?_)
        · replace hf := hf.1 c15
          refine v_iconst (v := 0) dX5_isFor_39 (by decide) ?_
          exact v_zret dX5_isFor_40 rfl (by decide) ⟨_, rfl, hf⟩
        · replace hf := hf.2 c15
          refine v_iconst (v := 1) dX5_isFor_35 (by decide) ?_
          refine v_goto 40 dX5_isFor_36 (by decide) ?_
          exact v_zret dX5_isFor_40 rfl (by decide) ⟨_, rfl, hf⟩
    · replace hf := hf.2 c12
      refine v_iconst (v := 1) dX5_isFor_15 (by decide) ?_
      refine v_goto 20 dX5_isFor_16 (by decide) ?_
      refine v_iload_n (i := 1) dX5_isFor_20 rfl rfl ?_
      refine v_iconst (v := 2) dX5_isFor_21 (by decide) ?_
      refine v_irem dX5_isFor_22 (by decide) ?_
      refine v_iconst (v := 1) dX5_isFor_23 (by decide) ?_
      refine v_icmp_ne 31 dX5_isFor_24 (by decide) (fun c16 => ?_) (fun c16 => ?_)
      · replace hf := hf.1 c16
        refine v_iconst (v := 0) dX5_isFor_31 (by decide) ?_
        refine v_icmp_ne 39 dX5_isFor_32 (by decide) (fun c17 => ?_) (fun c17 => ?_)
        · replace hf := hf.1 c17
          refine v_iconst (v := 0) dX5_isFor_39 (by decide) ?_
          exact v_zret dX5_isFor_40 rfl (by decide) ⟨_, rfl, hf⟩
        · replace hf := hf.2 c17
          refine v_iconst (v := 1) dX5_isFor_35 (by decide) ?_
          refine v_goto 40 dX5_isFor_36 (by decide) ?_
          exact v_zret dX5_isFor_40 rfl (by decide) ⟨_, rfl, hf⟩
      · replace hf := hf.2 c16
        refine v_iconst (v := 1) dX5_isFor_27 (by decide) ?_
        refine v_goto 32 dX5_isFor_28 (by decide) ?_
        refine v_icmp_ne 39 dX5_isFor_32 (by decide) (fun c18 => ?_) (fun c18 => ?_)
        · replace hf := hf.1 c18
          refine v_iconst (v := 0) dX5_isFor_39 (by decide) ?_
          exact v_zret dX5_isFor_40 rfl (by decide) ⟨_, rfl, hf⟩
        · replace hf := hf.2 c18
          refine v_iconst (v := 1) dX5_isFor_35 (by decide) ?_
          refine v_goto 40 dX5_isFor_36 (by decide) ?_
          exact v_zret dX5_isFor_40 rfl (by decide) ⟨_, rfl, hf⟩
abbrev Y_X5_beyond : Yt := (yX5_beyond, some (.int), 1, 40, [])
def f_X5_beyond (G : Gt) (h : Hp) (t_0 : Option Nat) (i_1 : Int32) (K : Int32 → Hp → Prop) : Prop :=
gI h t_0 5 0 fun i1 =>
((¬ (i_1 = i1) → gI h t_0 5 0 fun i7 =>
K i7 h) ∧
(i_1 = i1 → gI h t_0 5 1 fun i12 =>
K i12 h))
theorem m_X5_beyond {G : Gt} {h : Hp} {a0 : Nat} {i_1 : Int32} {K : Int32 → Hp → Prop} (hG : Base G) (hf : f_X5_beyond G h (some a0) i_1 K) : MM G Y_X5_beyond cX5_beyond 2 0 0 [.ref a0, .int i_1] h (kI K) xN := by
  refine mm_of hG (by decide +kernel) rfl (ac_c rfl (ac_c rfl ac_nil)) (Nat.le_of_ble_eq_true rfl) (fun E _ _ => ?_)
  show V G E Y_X5_beyond cX5_beyond 2 (QM G E (kI K) xN) h 0 0 0 [(0, .ref a0), (1, .int i_1)] []
  unfold f_X5_beyond at hf
  refine v_iload_n (i := 1) dX5_beyond_0 rfl rfl ?_
  refine v_qload_n (r := (some a0)) (i := 0) dX5_beyond_1 rfl rfl ?_
  replace hf := gI_e hf
  obtain ⟨w2, fs3, i1, hh4, hk5, hf⟩ := hf
  refine v_getf (T := TX5) (ci := 5) 0 dX5_beyond_2 q692 rfl in_X5 (Nat.le_of_ble_eq_true rfl) (Or.inl rfl) hh4 hk5 ?_
  refine v_icmp_ne 15 dX5_beyond_5 (by decide) (fun c6 => ?_) (fun c6 => ?_)
  · replace hf := hf.1 c6
    refine v_qload_n (r := (some a0)) (i := 0) dX5_beyond_15 rfl rfl ?_
    replace hf := gI_e hf
    obtain ⟨w8, fs9, i7, hh10, hk11, hf⟩ := hf
    refine v_getf (T := TX5) (ci := 5) 0 dX5_beyond_16 q692 rfl in_X5 (Nat.le_of_ble_eq_true rfl) (Or.inl rfl) hh10 hk11 ?_
    exact v_iret dX5_beyond_19 rfl ⟨_, rfl, hf⟩
  · replace hf := hf.2 c6
    refine v_qload_n (r := (some a0)) (i := 0) dX5_beyond_8 rfl rfl ?_
    replace hf := gI_e hf
    obtain ⟨w13, fs14, i12, hh15, hk16, hf⟩ := hf
    refine v_getf (T := TX5) (ci := 5) 1 dX5_beyond_9 q694 rfl in_X5 (Nat.le_of_ble_eq_true rfl) (Or.inl rfl) hh15 hk16 ?_
    refine v_goto 19 dX5_beyond_12 (by decide) ?_
    exact v_iret dX5_beyond_19 rfl ⟨_, rfl, hf⟩
abbrev Y_X5_of : Yt := (yX5_of, some (.int), 1, 40, [])
def f_X5_of (G : Gt) (h : Hp) (t_0 : Option Nat) (i_1 : Int32) (K : Int32 → Hp → Prop) : Prop :=
((i_1 = (0 : Int32) → gI h t_0 5 0 fun i1 =>
K i1 h) ∧
(i_1 = (1 : Int32) → gI h t_0 5 1 fun i6 =>
K i6 h) ∧
(i_1 = (2 : Int32) → gI h t_0 5 2 fun i11 =>
K i11 h) ∧
(i_1 = (3 : Int32) → gI h t_0 5 3 fun i16 =>
K i16 h) ∧
(i_1 = (4 : Int32) → gI h t_0 5 4 fun i21 =>
((i21 = 0 → K (0 : Int32) h) ∧
(¬ (i21 = 0) → K (1 : Int32) h))) ∧
(i_1 = (5 : Int32) → gI h t_0 5 5 fun i27 =>
K i27 h) ∧
(i_1.toInt < 0 ∨ 5 < i_1.toInt → K (-1012 : Int32) h))
theorem m_X5_of {G : Gt} {h : Hp} {a0 : Nat} {i_1 : Int32} {K : Int32 → Hp → Prop} (hG : Base G) (hf : f_X5_of G h (some a0) i_1 K) : MM G Y_X5_of cX5_of 2 0 0 [.ref a0, .int i_1] h (kI K) xN := by
  refine mm_of hG (by decide +kernel) rfl (ac_c rfl (ac_c rfl ac_nil)) (Nat.le_of_ble_eq_true rfl) (fun E _ _ => ?_)
  show V G E Y_X5_of cX5_of 2 (QM G E (kI K) xN) h 0 0 0 [(0, .ref a0), (1, .int i_1)] []
  unfold f_X5_of at hf
  refine v_iload_n (i := 1) dX5_of_0 rfl rfl ?_
  have hx : i_1.toInt = 0 ∨ i_1.toInt = 1 ∨ i_1.toInt = 2 ∨ i_1.toInt = 3 ∨ i_1.toInt = 4 ∨ i_1.toInt = 5 ∨ (i_1.toInt < 0 ∨ 5 < i_1.toInt) := by omega
  rcases hx with hx | hx | hx | hx | hx | hx | hx
  · have e9 : i_1 = (0 : Int32) := Int32.toInt_inj.mp hx
    replace hf := hf.1 e9
    refine v_tableAt (v := (0 : Int32)) (off := 39) 40 dX5_of_1 e9 (by decide) (by decide) (by decide) (by decide) ?_
    refine v_qload_n (r := (some a0)) (i := 0) dX5_of_40 rfl rfl ?_
    replace hf := gI_e hf
    obtain ⟨w2, fs3, i1, hh4, hk5, hf⟩ := hf
    refine v_getf (T := TX5) (ci := 5) 0 dX5_of_41 q692 rfl in_X5 (Nat.le_of_ble_eq_true rfl) (Or.inl rfl) hh4 hk5 ?_
    refine v_goto 93 dX5_of_44 (by decide) ?_
    exact v_iret dX5_of_93 rfl ⟨_, rfl, hf⟩
  · have e9 : i_1 = (1 : Int32) := Int32.toInt_inj.mp hx
    replace hf := hf.2.1 e9
    refine v_tableAt (v := (1 : Int32)) (off := 46) 47 dX5_of_1 e9 (by decide) (by decide) (by decide) (by decide) ?_
    refine v_qload_n (r := (some a0)) (i := 0) dX5_of_47 rfl rfl ?_
    replace hf := gI_e hf
    obtain ⟨w7, fs8, i6, hh9, hk10, hf⟩ := hf
    refine v_getf (T := TX5) (ci := 5) 1 dX5_of_48 q694 rfl in_X5 (Nat.le_of_ble_eq_true rfl) (Or.inl rfl) hh9 hk10 ?_
    refine v_goto 93 dX5_of_51 (by decide) ?_
    exact v_iret dX5_of_93 rfl ⟨_, rfl, hf⟩
  · have e9 : i_1 = (2 : Int32) := Int32.toInt_inj.mp hx
    replace hf := hf.2.2.1 e9
    refine v_tableAt (v := (2 : Int32)) (off := 53) 54 dX5_of_1 e9 (by decide) (by decide) (by decide) (by decide) ?_
    refine v_qload_n (r := (some a0)) (i := 0) dX5_of_54 rfl rfl ?_
    replace hf := gI_e hf
    obtain ⟨w12, fs13, i11, hh14, hk15, hf⟩ := hf
    refine v_getf (T := TX5) (ci := 5) 2 dX5_of_55 q696 rfl in_X5 (Nat.le_of_ble_eq_true rfl) (Or.inl rfl) hh14 hk15 ?_
    refine v_goto 93 dX5_of_58 (by decide) ?_
    exact v_iret dX5_of_93 rfl ⟨_, rfl, hf⟩
  · have e9 : i_1 = (3 : Int32) := Int32.toInt_inj.mp hx
    replace hf := hf.2.2.2.1 e9
    refine v_tableAt (v := (3 : Int32)) (off := 60) 61 dX5_of_1 e9 (by decide) (by decide) (by decide) (by decide) ?_
    refine v_qload_n (r := (some a0)) (i := 0) dX5_of_61 rfl rfl ?_
    replace hf := gI_e hf
    obtain ⟨w17, fs18, i16, hh19, hk20, hf⟩ := hf
    refine v_getf (T := TX5) (ci := 5) 3 dX5_of_62 q697 rfl in_X5 (Nat.le_of_ble_eq_true rfl) (Or.inl rfl) hh19 hk20 ?_
    refine v_goto 93 dX5_of_65 (by decide) ?_
    exact v_iret dX5_of_93 rfl ⟨_, rfl, hf⟩
  · have e9 : i_1 = (4 : Int32) := Int32.toInt_inj.mp hx
    replace hf := hf.2.2.2.2.1 e9
    refine v_tableAt (v := (4 : Int32)) (off := 67) 68 dX5_of_1 e9 (by decide) (by decide) (by decide) (by decide) ?_
    refine v_qload_n (r := (some a0)) (i := 0) dX5_of_68 rfl rfl ?_
    replace hf := gI_e hf
    obtain ⟨w22, fs23, i21, hh24, hk25, hf⟩ := hf
    refine v_getf (T := TX5) (ci := 5) 4 dX5_of_69 q699 rfl in_X5 (Nat.le_of_ble_eq_true rfl) (Or.inl rfl) hh24 hk25 ?_
    refine v_if_eq 79 dX5_of_72 (by decide) (fun c26 => ?_) (fun c26 => ?_)
    · replace hf := hf.1 c26
      refine v_iconst (v := 0) dX5_of_79 (by decide) ?_
      refine v_goto 93 dX5_of_80 (by decide) ?_
      exact v_iret dX5_of_93 rfl ⟨_, rfl, hf⟩
    · replace hf := hf.2 c26
      refine v_iconst (v := 1) dX5_of_75 (by decide) ?_
      refine v_goto 93 dX5_of_76 (by decide) ?_
      exact v_iret dX5_of_93 rfl ⟨_, rfl, hf⟩
  · have e9 : i_1 = (5 : Int32) := Int32.toInt_inj.mp hx
    replace hf := hf.2.2.2.2.2.1 e9
    refine v_tableAt (v := (5 : Int32)) (off := 82) 83 dX5_of_1 e9 (by decide) (by decide) (by decide) (by decide) ?_
    refine v_qload_n (r := (some a0)) (i := 0) dX5_of_83 rfl rfl ?_
    replace hf := gI_e hf
    obtain ⟨w28, fs29, i27, hh30, hk31, hf⟩ := hf
    refine v_getf (T := TX5) (ci := 5) 5 dX5_of_84 q701 rfl in_X5 (Nat.le_of_ble_eq_true rfl) (Or.inl rfl) hh30 hk31 ?_
    refine v_goto 93 dX5_of_87 (by decide) ?_
    exact v_iret dX5_of_93 rfl ⟨_, rfl, hf⟩
  · replace hf := hf.2.2.2.2.2.2 hx
    refine v_tableOut 90 dX5_of_1 hx (by decide) ?_
    refine v_sipush (v := -1012) dX5_of_90 (by decide) ?_
    exact v_iret dX5_of_93 rfl ⟨_, rfl, hf⟩
abbrev Y_X5_goneThrough : Yt := (yX5_goneThrough, some (.object "ParityMaze$Door"), 2, 66, [])
def f_X5_goneThrough (G : Gt) (h : Hp) (t_0 : Option Nat) (K : Option Nat → Hp → Prop) : Prop :=
nO h 5 [.int 0, .int 0, .int 0, .int 0, .int 0, .int 0] fun a1 h2 =>
gI h2 t_0 5 0 fun i3 =>
gI h2 t_0 5 1 fun i8 =>
gI h2 t_0 5 2 fun i13 =>
gI h2 t_0 5 3 fun i18 =>
gI h2 t_0 5 4 fun i23 =>
gI h2 t_0 5 5 fun i28 =>
f_X5_init_2 G h2 (some a1) i3 i8 i13 i18 i23 (i28 + (1 : Int32)) (fun h33 =>
K (some a1) h33)
theorem m_X5_goneThrough {G : Gt} {h : Hp} {a0 : Nat} {K : Option Nat → Hp → Prop} (hG : Base G) (hf : f_X5_goneThrough G h (some a0) K) : MM G Y_X5_goneThrough cX5_goneThrough 1 1 6 [.ref a0] h (kR K) xN := by
  refine mm_of hG (by decide +kernel) rfl (ac_c rfl ac_nil) (Nat.le_of_ble_eq_true rfl) (fun E _ _ => ?_)
  show V G E Y_X5_goneThrough cX5_goneThrough 1 (QM G E (kR K) xN) h 1 6 0 [(0, .ref a0)] []
  unfold f_X5_goneThrough at hf
  refine v_new (N := 6) (fs := [.int 0, .int 0, .int 0, .int 0, .int 0, .int 0]) (ci := 5) dX5_goneThrough_0 q1702 q682 q110 rfl in_X5 tyX5 tyX5_ok rfl (fun a1 ha1 => ?_)
  replace hf := hf a1 ha1
  obtain ⟨h2, eh2⟩ : ∃ z, z = hs h a1 (true, .inr (5, [.int 0, .int 0, .int 0, .int 0, .int 0, .int 0])) := ⟨_, rfl⟩
  try rw [← eh2] at hf
  rw [← eh2]
  refine v_dup dX5_goneThrough_3 rfl ?_
  refine v_qload_n (r := (some a0)) (i := 0) dX5_goneThrough_4 rfl rfl ?_
  replace hf := gI_e hf
  obtain ⟨w4, fs5, i3, hh6, hk7, hf⟩ := hf
  refine v_getf (T := TX5) (ci := 5) 0 dX5_goneThrough_5 q692 rfl in_X5 (Nat.le_of_ble_eq_true rfl) (Or.inl rfl) hh6 hk7 ?_
  refine v_qload_n (r := (some a0)) (i := 0) dX5_goneThrough_8 rfl rfl ?_
  replace hf := gI_e hf
  obtain ⟨w9, fs10, i8, hh11, hk12, hf⟩ := hf
  refine v_getf (T := TX5) (ci := 5) 1 dX5_goneThrough_9 q694 rfl in_X5 (Nat.le_of_ble_eq_true rfl) (Or.inl rfl) hh11 hk12 ?_
  refine v_qload_n (r := (some a0)) (i := 0) dX5_goneThrough_12 rfl rfl ?_
  replace hf := gI_e hf
  obtain ⟨w14, fs15, i13, hh16, hk17, hf⟩ := hf
  refine v_getf (T := TX5) (ci := 5) 2 dX5_goneThrough_13 q696 rfl in_X5 (Nat.le_of_ble_eq_true rfl) (Or.inl rfl) hh16 hk17 ?_
  refine v_qload_n (r := (some a0)) (i := 0) dX5_goneThrough_16 rfl rfl ?_
  replace hf := gI_e hf
  obtain ⟨w19, fs20, i18, hh21, hk22, hf⟩ := hf
  refine v_getf (T := TX5) (ci := 5) 3 dX5_goneThrough_17 q697 rfl in_X5 (Nat.le_of_ble_eq_true rfl) (Or.inl rfl) hh21 hk22 ?_
  refine v_qload_n (r := (some a0)) (i := 0) dX5_goneThrough_20 rfl rfl ?_
  replace hf := gI_e hf
  obtain ⟨w24, fs25, i23, hh26, hk27, hf⟩ := hf
  refine v_getf (T := TX5) (ci := 5) 4 dX5_goneThrough_21 q699 rfl in_X5 (Nat.le_of_ble_eq_true rfl) (Or.inl rfl) hh26 hk27 ?_
  refine v_qload_n (r := (some a0)) (i := 0) dX5_goneThrough_24 rfl rfl ?_
  replace hf := gI_e hf
  obtain ⟨w29, fs30, i28, hh31, hk32, hf⟩ := hf
  refine v_getf (T := TX5) (ci := 5) 5 dX5_goneThrough_25 q701 rfl in_X5 (Nat.le_of_ble_eq_true rfl) (Or.inl rfl) hh31 hk32 ?_
  refine v_iconst (v := 1) dX5_goneThrough_28 (by decide) ?_
  refine v_iadd dX5_goneThrough_29 ?_
  refine V.addK0 ?_
  refine V.addN0 ?_
  refine v_callI (mc := 0) (ms := 0) 6 dX5_goneThrough_30 (m_X5_init_2 hG hf) rfl (lw_meth q690) rfl q110 q688 q689 rfl rfl (by decide +kernel) (by decide) rfl (cat_len (Nat.le_of_ble_eq_true rfl)) (kk_V fun h33 hg => ?_) (fun _ _ _ hx => hx.elim)
  replace hf := hg
  clear hg
  exact v_qret (r := (some a1)) dX5_goneThrough_33 rfl (Or.inl ⟨_, rfl⟩) ⟨_, rfl, hf⟩
abbrev Y_X5_opened : Yt := (yX5_opened, some (.object "ParityMaze$Door"), 2, 66, [])
def f_X5_opened (G : Gt) (h : Hp) (t_0 : Option Nat) (K : Option Nat → Hp → Prop) : Prop :=
nO h 5 [.int 0, .int 0, .int 0, .int 0, .int 0, .int 0] fun a1 h2 =>
gI h2 t_0 5 0 fun i3 =>
gI h2 t_0 5 1 fun i8 =>
gI h2 t_0 5 2 fun i13 =>
gI h2 t_0 5 3 fun i18 =>
gI h2 t_0 5 5 fun i23 =>
f_X5_init_2 G h2 (some a1) i3 i8 i13 i18 (0 : Int32) i23 (fun h28 =>
K (some a1) h28)
theorem m_X5_opened {G : Gt} {h : Hp} {a0 : Nat} {K : Option Nat → Hp → Prop} (hG : Base G) (hf : f_X5_opened G h (some a0) K) : MM G Y_X5_opened cX5_opened 1 1 6 [.ref a0] h (kR K) xN := by
  refine mm_of hG (by decide +kernel) rfl (ac_c rfl ac_nil) (Nat.le_of_ble_eq_true rfl) (fun E _ _ => ?_)
  show V G E Y_X5_opened cX5_opened 1 (QM G E (kR K) xN) h 1 6 0 [(0, .ref a0)] []
  unfold f_X5_opened at hf
  refine v_new (N := 6) (fs := [.int 0, .int 0, .int 0, .int 0, .int 0, .int 0]) (ci := 5) dX5_opened_0 q1702 q682 q110 rfl in_X5 tyX5 tyX5_ok rfl (fun a1 ha1 => ?_)
  replace hf := hf a1 ha1
  obtain ⟨h2, eh2⟩ : ∃ z, z = hs h a1 (true, .inr (5, [.int 0, .int 0, .int 0, .int 0, .int 0, .int 0])) := ⟨_, rfl⟩
  try rw [← eh2] at hf
  rw [← eh2]
  refine v_dup dX5_opened_3 rfl ?_
  refine v_qload_n (r := (some a0)) (i := 0) dX5_opened_4 rfl rfl ?_
  replace hf := gI_e hf
  obtain ⟨w4, fs5, i3, hh6, hk7, hf⟩ := hf
  refine v_getf (T := TX5) (ci := 5) 0 dX5_opened_5 q692 rfl in_X5 (Nat.le_of_ble_eq_true rfl) (Or.inl rfl) hh6 hk7 ?_
  refine v_qload_n (r := (some a0)) (i := 0) dX5_opened_8 rfl rfl ?_
  replace hf := gI_e hf
  obtain ⟨w9, fs10, i8, hh11, hk12, hf⟩ := hf
  refine v_getf (T := TX5) (ci := 5) 1 dX5_opened_9 q694 rfl in_X5 (Nat.le_of_ble_eq_true rfl) (Or.inl rfl) hh11 hk12 ?_
  refine v_qload_n (r := (some a0)) (i := 0) dX5_opened_12 rfl rfl ?_
  replace hf := gI_e hf
  obtain ⟨w14, fs15, i13, hh16, hk17, hf⟩ := hf
  refine v_getf (T := TX5) (ci := 5) 2 dX5_opened_13 q696 rfl in_X5 (Nat.le_of_ble_eq_true rfl) (Or.inl rfl) hh16 hk17 ?_
  refine v_qload_n (r := (some a0)) (i := 0) dX5_opened_16 rfl rfl ?_
  replace hf := gI_e hf
  obtain ⟨w19, fs20, i18, hh21, hk22, hf⟩ := hf
  refine v_getf (T := TX5) (ci := 5) 3 dX5_opened_17 q697 rfl in_X5 (Nat.le_of_ble_eq_true rfl) (Or.inl rfl) hh21 hk22 ?_
  refine v_iconst (v := 0) dX5_opened_20 (by decide) ?_
  refine v_qload_n (r := (some a0)) (i := 0) dX5_opened_21 rfl rfl ?_
  replace hf := gI_e hf
  obtain ⟨w24, fs25, i23, hh26, hk27, hf⟩ := hf
  refine v_getf (T := TX5) (ci := 5) 5 dX5_opened_22 q701 rfl in_X5 (Nat.le_of_ble_eq_true rfl) (Or.inl rfl) hh26 hk27 ?_
  refine V.addK0 ?_
  refine V.addN0 ?_
  refine v_callI (mc := 0) (ms := 0) 6 dX5_opened_25 (m_X5_init_2 hG hf) rfl (lw_meth q690) rfl q110 q688 q689 rfl rfl (by decide +kernel) (by decide) rfl (cat_len (Nat.le_of_ble_eq_true rfl)) (kk_V fun h28 hg => ?_) (fun _ _ _ hx => hx.elim)
  replace hf := hg
  clear hg
  exact v_qret (r := (some a1)) dX5_opened_28 rfl (Or.inl ⟨_, rfl⟩) ⟨_, rfl, hf⟩
abbrev Y_X6_init : Yt := (yX6_init, none, 1, 40, [])
def f_X6_init (G : Gt) (h : Hp) (t_0 : Option Nat) (i_1 : Int32) (i_2 : Int32) (K : Hp → Prop) : Prop :=
pF h t_0 6 0 (.int i_1) fun h3 =>
pF h3 t_0 6 1 (.int i_2) fun h6 =>
K h6
theorem m_X6_init {G : Gt} {h : Hp} {a0 : Nat} {i_1 : Int32} {i_2 : Int32} {K : Hp → Prop} (hG : Base G) (hf : f_X6_init G h (some a0) i_1 i_2 K) : MM G Y_X6_init cX6_init 3 0 0 [.ref a0, .int i_1, .int i_2] h (kV K) xN := by
  refine mm_of hG (by decide +kernel) rfl (ac_c rfl (ac_c rfl (ac_c rfl ac_nil))) (Nat.le_of_ble_eq_true rfl) (fun E _ _ => ?_)
  show V G E Y_X6_init cX6_init 3 (QM G E (kV K) xN) h 0 0 0 [(0, .ref a0), (1, .int i_1), (2, .int i_2)] []
  unfold f_X6_init at hf
  refine v_qload_n (r := (some a0)) (i := 0) dX6_init_0 rfl rfl ?_
  refine v_objInit dX6_init_1 q891 q153 q154 (cat_len (Nat.le_of_ble_eq_true rfl)) (Nat.le_of_ble_eq_true rfl) (Nat.le_of_ble_eq_true rfl) ?_
  refine v_qload_n (r := (some a0)) (i := 0) dX6_init_4 rfl rfl ?_
  refine v_iload_n (i := 1) dX6_init_5 rfl rfl ?_
  replace hf := pF_e hf
  obtain ⟨fs1, hh2, hf⟩ := hf
  refine v_putfF (v := .int i_1) (T := TX6) (ci := 6) (ty := .int) 0 dX6_init_6 q892 rfl in_X6 tyX6 tyX6_ok nmX6 (Nat.le_of_ble_eq_true rfl) (Or.inl rfl) rfl rfl rfl (by decide +kernel) rfl rfl hh2 ?_
  obtain ⟨h3, eh3⟩ : ∃ z, z = hs h a0 (true, .inr (6, fs1.set 0 (.int i_1))) := ⟨_, rfl⟩
  try rw [← eh3] at hf
  rw [← eh3]
  refine v_qload_n (r := (some a0)) (i := 0) dX6_init_9 rfl rfl ?_
  refine v_iload_n (i := 2) dX6_init_10 rfl rfl ?_
  replace hf := pF_e hf
  obtain ⟨fs4, hh5, hf⟩ := hf
  refine v_putfF (v := .int i_2) (T := TX6) (ci := 6) (ty := .int) 1 dX6_init_11 q894 rfl in_X6 tyX6 tyX6_ok nmX6 (Nat.le_of_ble_eq_true rfl) (Or.inl rfl) rfl rfl rfl (by decide +kernel) rfl rfl hh5 ?_
  obtain ⟨h6, eh6⟩ : ∃ z, z = hs h3 a0 (true, .inr (6, fs4.set 1 (.int i_2))) := ⟨_, rfl⟩
  try rw [← eh6] at hf
  rw [← eh6]
  exact v_vret dX6_init_14 rfl ⟨rfl, hf⟩
abbrev Y_X6_hashCode : Yt := (yX6_hashCode, some (.int), 1, 40, [])
def f_X6_hashCode (G : Gt) (h : Hp) (t_0 : Option Nat) (K : Int32 → Hp → Prop) : Prop :=
gI h t_0 6 0 fun i1 =>
gI h t_0 6 1 fun i6 =>
K (((2 : Int32) * i1) + i6) h
theorem m_X6_hashCode {G : Gt} {h : Hp} {a0 : Nat} {K : Int32 → Hp → Prop} (hG : Base G) (hf : f_X6_hashCode G h (some a0) K) : MM G Y_X6_hashCode cX6_hashCode 1 0 0 [.ref a0] h (kI K) xN := by
  refine mm_of hG (by decide +kernel) rfl (ac_c rfl ac_nil) (Nat.le_of_ble_eq_true rfl) (fun E _ _ => ?_)
  show V G E Y_X6_hashCode cX6_hashCode 1 (QM G E (kI K) xN) h 0 0 0 [(0, .ref a0)] []
  unfold f_X6_hashCode at hf
  refine v_iconst (v := 2) dX6_hashCode_0 (by decide) ?_
  refine v_qload_n (r := (some a0)) (i := 0) dX6_hashCode_1 rfl rfl ?_
  replace hf := gI_e hf
  obtain ⟨w2, fs3, i1, hh4, hk5, hf⟩ := hf
  refine v_getf (T := TX6) (ci := 6) 0 dX6_hashCode_2 q892 rfl in_X6 (Nat.le_of_ble_eq_true rfl) (Or.inl rfl) hh4 hk5 ?_
  refine v_imul dX6_hashCode_5 ?_
  refine v_qload_n (r := (some a0)) (i := 0) dX6_hashCode_6 rfl rfl ?_
  replace hf := gI_e hf
  obtain ⟨w7, fs8, i6, hh9, hk10, hf⟩ := hf
  refine v_getf (T := TX6) (ci := 6) 1 dX6_hashCode_7 q894 rfl in_X6 (Nat.le_of_ble_eq_true rfl) (Or.inl rfl) hh9 hk10 ?_
  refine v_iadd dX6_hashCode_10 ?_
  exact v_iret dX6_hashCode_11 rfl ⟨_, rfl, hf⟩
abbrev Y_X6_equals : Yt := (yX6_equals, some (.boolean), 1, 40, [])
def f_X6_equals (G : Gt) (h : Hp) (t_0 : Option Nat) (r_1 : Option Nat) (K : Int32 → Hp → Prop) : Prop :=
rv h r_1 6 ((((1 : Int32) = 0 → K (0 : Int32) h) ∧
(¬ ((1 : Int32) = 0) → (oc h r_1 6 ∧ gI h t_0 6 0 fun i6 =>
gI h r_1 6 0 fun i11 =>
((¬ (i6 = i11) → K (0 : Int32) h) ∧
(i6 = i11 → gI h t_0 6 1 fun i17 =>
gI h r_1 6 1 fun i22 =>
((¬ (i17 = i22) → K (0 : Int32) h) ∧
(i17 = i22 → K (1 : Int32) h))))))))
theorem m_X6_equals {G : Gt} {h : Hp} {a0 : Nat} {r_1 : Option Nat} {K : Int32 → Hp → Prop} (hG : Base G) (hf : f_X6_equals G h (some a0) r_1 K) : MM G Y_X6_equals cX6_equals 3 0 0 [.ref a0, va_rf r_1] h (kI K) xN := by
  refine mm_of hG (by decide +kernel) rfl (ac_c rfl (ac_c (rf_cat _) ac_nil)) (Nat.le_of_ble_eq_true rfl) (fun E _ _ => ?_)
  show V G E Y_X6_equals cX6_equals 3 (QM G E (kI K) xN) h 0 0 0 [(0, .ref a0), (1, va_rf r_1)] []
  unfold f_X6_equals at hf
  refine v_qload_n (r := r_1) (i := 1) dX6_equals_0 rfl rfl ?_
  obtain ⟨a1, rfl⟩ := rv_s hf
  replace hf := rv_e hf
  obtain ⟨w2, fs3, hh4, hf⟩ := hf
  refine v_instS dX6_equals_1 q1417 hh4 rfl ?_
  refine v_if_eq 38 dX6_equals_4 (by decide) (fun c5 => ?_) (fun c5 => ?_)
  · replace hf := hf.1 c5
    refine v_iconst (v := 0) dX6_equals_38 (by decide) ?_
    exact v_zret dX6_equals_39 rfl (by decide) ⟨_, rfl, hf⟩
  · replace hf := hf.2 c5
    refine v_qload_n (r := (some a1)) (i := 1) dX6_equals_7 rfl rfl ?_
    obtain ⟨hoc, hf⟩ := hf
    refine v_castQS (r := (some a1)) dX6_equals_8 q1417 hoc rfl ?_
    refine v_qstore_n (i := 2) (r := (some a1)) (lv' := [(0, va_rf (some a0)), (1, va_rf (some a1)), (2, va_rf (some a1))]) dX6_equals_11 rfl (Nat.le_of_ble_eq_true rfl) rfl rfl ?_
    refine v_qload_n (r := (some a0)) (i := 0) dX6_equals_12 rfl rfl ?_
    replace hf := gI_e hf
    obtain ⟨w7, fs8, i6, hh9, hk10, hf⟩ := hf
    refine v_getf (T := TX6) (ci := 6) 0 dX6_equals_13 q892 rfl in_X6 (Nat.le_of_ble_eq_true rfl) (Or.inl rfl) hh9 hk10 ?_
    refine v_qload_n (r := (some a1)) (i := 2) dX6_equals_16 rfl rfl ?_
    replace hf := gI_e hf
    obtain ⟨w12, fs13, i11, hh14, hk15, hf⟩ := hf
    refine v_getf (T := TX6) (ci := 6) 0 dX6_equals_17 q892 rfl in_X6 (Nat.le_of_ble_eq_true rfl) (Or.inl rfl) hh14 hk15 ?_
    refine v_icmp_ne 38 dX6_equals_20 (by decide) (fun c16 => ?_) (fun c16 => ?_)
    · replace hf := hf.1 c16
      refine v_iconst (v := 0) dX6_equals_38 (by decide) ?_
      exact v_zret dX6_equals_39 rfl (by decide) ⟨_, rfl, hf⟩
    · replace hf := hf.2 c16
      refine v_qload_n (r := (some a0)) (i := 0) dX6_equals_23 rfl rfl ?_
      replace hf := gI_e hf
      obtain ⟨w18, fs19, i17, hh20, hk21, hf⟩ := hf
      refine v_getf (T := TX6) (ci := 6) 1 dX6_equals_24 q894 rfl in_X6 (Nat.le_of_ble_eq_true rfl) (Or.inl rfl) hh20 hk21 ?_
      refine v_qload_n (r := (some a1)) (i := 2) dX6_equals_27 rfl rfl ?_
      replace hf := gI_e hf
      obtain ⟨w23, fs24, i22, hh25, hk26, hf⟩ := hf
      refine v_getf (T := TX6) (ci := 6) 1 dX6_equals_28 q894 rfl in_X6 (Nat.le_of_ble_eq_true rfl) (Or.inl rfl) hh25 hk26 ?_
      refine v_icmp_ne 38 dX6_equals_31 (by decide) (fun c27 => ?_) (fun c27 => ?_)
      · replace hf := hf.1 c27
        refine v_iconst (v := 0) dX6_equals_38 (by decide) ?_
        exact v_zret dX6_equals_39 rfl (by decide) ⟨_, rfl, hf⟩
      · replace hf := hf.2 c27
        refine v_iconst (v := 1) dX6_equals_34 (by decide) ?_
        refine v_goto 39 dX6_equals_35 (by decide) ?_
        exact v_zret dX6_equals_39 rfl (by decide) ⟨_, rfl, hf⟩
abbrev Y_X6_after : Yt := (yX6_after, some (.object "ParityMaze$Spot"), 2, 62, [])
def f_X6_after (G : Gt) (h : Hp) (t_0 : Option Nat) (i_1 : Int32) (K : Option Nat → Hp → Prop) : Prop :=
nO h 6 [.int 0, .int 0] fun a1 h2 =>
gI h2 t_0 6 0 fun i3 =>
gI h2 t_0 6 1 fun i8 =>
f_X6_init G h2 (some a1) i3 ((i8 + i_1) - (i8 + i_1) / (2 : Int32) * (2 : Int32)) (fun h13 =>
K (some a1) h13)
theorem m_X6_after {G : Gt} {h : Hp} {a0 : Nat} {i_1 : Int32} {K : Option Nat → Hp → Prop} (hG : Base G) (hf : f_X6_after G h (some a0) i_1 K) : MM G Y_X6_after cX6_after 2 1 2 [.ref a0, .int i_1] h (kR K) xN := by
  refine mm_of hG (by decide +kernel) rfl (ac_c rfl (ac_c rfl ac_nil)) (Nat.le_of_ble_eq_true rfl) (fun E _ _ => ?_)
  show V G E Y_X6_after cX6_after 2 (QM G E (kR K) xN) h 1 2 0 [(0, .ref a0), (1, .int i_1)] []
  unfold f_X6_after at hf
  refine v_new (N := 2) (fs := [.int 0, .int 0]) (ci := 6) dX6_after_0 q1417 q887 q123 rfl in_X6 tyX6 tyX6_ok rfl (fun a1 ha1 => ?_)
  replace hf := hf a1 ha1
  obtain ⟨h2, eh2⟩ : ∃ z, z = hs h a1 (true, .inr (6, [.int 0, .int 0])) := ⟨_, rfl⟩
  try rw [← eh2] at hf
  rw [← eh2]
  refine v_dup dX6_after_3 rfl ?_
  refine v_qload_n (r := (some a0)) (i := 0) dX6_after_4 rfl rfl ?_
  replace hf := gI_e hf
  obtain ⟨w4, fs5, i3, hh6, hk7, hf⟩ := hf
  refine v_getf (T := TX6) (ci := 6) 0 dX6_after_5 q892 rfl in_X6 (Nat.le_of_ble_eq_true rfl) (Or.inl rfl) hh6 hk7 ?_
  refine v_qload_n (r := (some a0)) (i := 0) dX6_after_8 rfl rfl ?_
  replace hf := gI_e hf
  obtain ⟨w9, fs10, i8, hh11, hk12, hf⟩ := hf
  refine v_getf (T := TX6) (ci := 6) 1 dX6_after_9 q894 rfl in_X6 (Nat.le_of_ble_eq_true rfl) (Or.inl rfl) hh11 hk12 ?_
  refine v_iload_n (i := 1) dX6_after_12 rfl rfl ?_
  refine v_iadd dX6_after_13 ?_
  refine v_iconst (v := 2) dX6_after_14 (by decide) ?_
  refine v_irem dX6_after_15 (by decide) ?_
  refine V.addK0 ?_
  refine V.addN0 ?_
  refine v_callI (mc := 0) (ms := 0) 2 dX6_after_16 (m_X6_init hG hf) rfl (lw_meth q890) rfl q123 q1521 q889 rfl rfl (by decide +kernel) (by decide) rfl (cat_len (Nat.le_of_ble_eq_true rfl)) (kk_V fun h13 hg => ?_) (fun _ _ _ hx => hx.elim)
  replace hf := hg
  clear hg
  exact v_qret (r := (some a1)) dX6_after_19 rfl (Or.inl ⟨_, rfl⟩) ⟨_, rfl, hf⟩
abbrev Y_X6_behind : Yt := (yX6_behind, some (.object "ParityMaze$Spot"), 2, 62, [])
def f_X6_behind (G : Gt) (h : Hp) (t_0 : Option Nat) (r_1 : Option Nat) (i_2 : Int32) (K : Option Nat → Hp → Prop) : Prop :=
nO h 6 [.int 0, .int 0] fun a1 h2 =>
gI h2 t_0 6 0 fun i3 =>
rv h2 r_1 5 (f_X5_beyond G h2 r_1 i3 (fun i13 h12 =>
gI h12 t_0 6 1 fun i14 =>
f_X6_init G h12 (some a1) i13 ((i14 + i_2) - (i14 + i_2) / (2 : Int32) * (2 : Int32)) (fun h19 =>
K (some a1) h19)))
theorem m_X6_behind {G : Gt} {h : Hp} {a0 : Nat} {r_1 : Option Nat} {i_2 : Int32} {K : Option Nat → Hp → Prop} (hG : Base G) (hf : f_X6_behind G h (some a0) r_1 i_2 K) : MM G Y_X6_behind cX6_behind 3 1 2 [.ref a0, va_rf r_1, .int i_2] h (kR K) xN := by
  refine mm_of hG (by decide +kernel) rfl (ac_c rfl (ac_c (rf_cat _) (ac_c rfl ac_nil))) (Nat.le_of_ble_eq_true rfl) (fun E _ _ => ?_)
  show V G E Y_X6_behind cX6_behind 3 (QM G E (kR K) xN) h 1 2 0 [(0, .ref a0), (1, va_rf r_1), (2, .int i_2)] []
  unfold f_X6_behind at hf
  refine v_new (N := 2) (fs := [.int 0, .int 0]) (ci := 6) dX6_behind_0 q1417 q887 q123 rfl in_X6 tyX6 tyX6_ok rfl (fun a1 ha1 => ?_)
  replace hf := hf a1 ha1
  obtain ⟨h2, eh2⟩ : ∃ z, z = hs h a1 (true, .inr (6, [.int 0, .int 0])) := ⟨_, rfl⟩
  try rw [← eh2] at hf
  rw [← eh2]
  refine v_dup dX6_behind_3 rfl ?_
  refine v_qload_n (r := r_1) (i := 1) dX6_behind_4 rfl rfl ?_
  refine v_qload_n (r := (some a0)) (i := 0) dX6_behind_5 rfl rfl ?_
  replace hf := gI_e hf
  obtain ⟨w4, fs5, i3, hh6, hk7, hf⟩ := hf
  refine v_getf (T := TX6) (ci := 6) 0 dX6_behind_6 q892 rfl in_X6 (Nat.le_of_ble_eq_true rfl) (Or.inl rfl) hh6 hk7 ?_
  obtain ⟨a8, rfl⟩ := rv_s hf
  replace hf := rv_e hf
  obtain ⟨w9, fs10, hh11, hf⟩ := hf
  refine V.addK0 ?_
  refine V.addN0 ?_
  refine v_callV (mc := 0) (ms := 0) 1 dX6_behind_9 (m_X5_beyond hG hf) rfl hh11 rfl (lw_V q1595 q1596 q1597 q110 q1598) rfl (by decide +kernel) (by decide) rfl (cat_len (Nat.le_of_ble_eq_true rfl)) (kk_I fun i13 h12 hg => ?_) (fun _ _ _ hx => hx.elim)
  replace hf := hg
  clear hg
  refine v_qload_n (r := (some a0)) (i := 0) dX6_behind_12 rfl rfl ?_
  replace hf := gI_e hf
  obtain ⟨w15, fs16, i14, hh17, hk18, hf⟩ := hf
  refine v_getf (T := TX6) (ci := 6) 1 dX6_behind_13 q894 rfl in_X6 (Nat.le_of_ble_eq_true rfl) (Or.inl rfl) hh17 hk18 ?_
  refine v_iload_n (i := 2) dX6_behind_16 rfl rfl ?_
  refine v_iadd dX6_behind_17 ?_
  refine v_iconst (v := 2) dX6_behind_18 (by decide) ?_
  refine v_irem dX6_behind_19 (by decide) ?_
  refine V.addK0 ?_
  refine V.addN0 ?_
  refine v_callI (mc := 0) (ms := 0) 2 dX6_behind_20 (m_X6_init hG hf) rfl (lw_meth q890) rfl q123 q1521 q889 rfl rfl (by decide +kernel) (by decide) rfl (cat_len (Nat.le_of_ble_eq_true rfl)) (kk_V fun h19 hg => ?_) (fun _ _ _ hx => hx.elim)
  replace hf := hg
  clear hg
  exact v_qret (r := (some a1)) dX6_behind_23 rfl (Or.inl ⟨_, rfl⟩) ⟨_, rfl, hf⟩
abbrev Y_J12_init_2_W : Yt := (yJ12_init_2, none, 1, 40, [])
def f_J12_init_2_W (G : Gt) (h : Hp) (t_0 : Option Nat) (r_1 : Option Nat) (r_2 : Option Nat) (i_3 : Int32) (i_4 : Int32) (K : Hp → Prop) : Prop :=
pF h t_0 8 0 (va_rf t_0) fun h3 =>
gS (g_r G 0) fun r4 =>
pF h3 t_0 8 1 (va_rf r4) fun h7 =>
gS (g_r G 1) fun r8 =>
pF h7 t_0 8 2 (va_rf r8) fun h11 =>
((i_4 = 0 → pF h11 t_0 8 1 (.null) fun h15 =>
pF h15 t_0 8 3 (va_rf r_1) fun h18 =>
pF h18 t_0 8 0 (va_rf r_2) fun h21 =>
((¬ (i_3 = 0) → K h21) ∧
(i_3 = 0 → pF h21 t_0 8 2 (.null) fun h25 =>
K h25))) ∧
(¬ (i_4 = 0) → False))
theorem m_J12_init_2_W {G : Gt} {h : Hp} {a0 : Nat} {r_1 : Option Nat} {r_2 : Option Nat} {i_3 : Int32} {i_4 : Int32} {K : Hp → Prop} (hG : Base G) (hf : f_J12_init_2_W G h (some a0) r_1 r_2 i_3 i_4 K) : MM G Y_J12_init_2_W cJ12_init_2 5 0 0 [.ref a0, va_rf r_1, va_rf r_2, .int i_3, .int i_4] h (kV K) xN := by
  refine mm_of hG (by decide +kernel) rfl (ac_c rfl (ac_c (rf_cat _) (ac_c (rf_cat _) (ac_c rfl (ac_c rfl ac_nil))))) (Nat.le_of_ble_eq_true rfl) (fun E _ _ => ?_)
  show V G E Y_J12_init_2_W cJ12_init_2 5 (QM G E (kV K) xN) h 0 0 0 [(0, .ref a0), (1, va_rf r_1), (2, va_rf r_2), (3, .int i_3), (4, .int i_4)] []
  unfold f_J12_init_2_W at hf
  refine v_qload_n (r := (some a0)) (i := 0) dJ12_init_2_0 rfl rfl ?_
  refine v_objInit dJ12_init_2_1 q537 q153 q154 (cat_len (Nat.le_of_ble_eq_true rfl)) (Nat.le_of_ble_eq_true rfl) (Nat.le_of_ble_eq_true rfl) ?_
  refine v_qload_n (r := (some a0)) (i := 0) dJ12_init_2_4 rfl rfl ?_
  refine v_qload_n (r := (some a0)) (i := 0) dJ12_init_2_5 rfl rfl ?_
  replace hf := pF_e hf
  obtain ⟨fs1, hh2, hf⟩ := hf
  refine v_putf (v := va_rf (some a0)) (T := TX8) (ci := 8) (ty := .object "java/lang/Throwable") 0 dJ12_init_2_6 q567 rfl in_X8 tyX8 tyX8_ok nmX8 (Nat.le_of_ble_eq_true rfl) (Or.inl rfl) rfl (by decide +kernel) (rf_nar _ _) (rf_fit _ _) hh2 ?_
  obtain ⟨h3, eh3⟩ : ∃ z, z = hs h a0 (true, .inr (8, fs1.set 0 (va_rf (some a0)))) := ⟨_, rfl⟩
  try rw [← eh3] at hf
  rw [← eh3]
  refine v_qload_n (r := (some a0)) (i := 0) dJ12_init_2_9 rfl rfl ?_
  refine v_gets dJ12_init_2_10 q538 (List.mem_of_getElem? (i := 1) rfl) (Or.inl rfl) ?_
  replace hf := gS_e hf
  obtain ⟨r4, er4, hf⟩ := hf
  rw [← er4]
  replace hf := pF_e hf
  obtain ⟨fs5, hh6, hf⟩ := hf
  refine v_putf (v := va_rf r4) (T := TX8) (ci := 8) (ty := .array (.object "java/lang/StackTraceElement")) 1 dJ12_init_2_13 q568 rfl in_X8 tyX8 tyX8_ok nmX8 (Nat.le_of_ble_eq_true rfl) (Or.inl rfl) rfl (by decide +kernel) (rf_narA _ _) (rf_fitA _ _) hh6 ?_
  obtain ⟨h7, eh7⟩ : ∃ z, z = hs h3 a0 (true, .inr (8, fs5.set 1 (va_rf r4))) := ⟨_, rfl⟩
  try rw [← eh7] at hf
  rw [← eh7]
  refine v_qload_n (r := (some a0)) (i := 0) dJ12_init_2_16 rfl rfl ?_
  refine v_gets dJ12_init_2_17 q540 (List.mem_of_getElem? (i := 2) rfl) (Or.inl rfl) ?_
  replace hf := gS_e hf
  obtain ⟨r8, er8, hf⟩ := hf
  rw [← er8]
  replace hf := pF_e hf
  obtain ⟨fs9, hh10, hf⟩ := hf
  refine v_putf (v := va_rf r8) (T := TX8) (ci := 8) (ty := .object "java/util/List") 2 dJ12_init_2_20 q569 rfl in_X8 tyX8 tyX8_ok nmX8 (Nat.le_of_ble_eq_true rfl) (Or.inl rfl) rfl (by decide +kernel) (rf_nar _ _) (rf_fit _ _) hh10 ?_
  obtain ⟨h11, eh11⟩ : ∃ z, z = hs h7 a0 (true, .inr (8, fs9.set 2 (va_rf r8))) := ⟨_, rfl⟩
  try rw [← eh11] at hf
  rw [← eh11]
  refine v_iload (i := 4) dJ12_init_2_23 rfl ?_
  refine v_if_eq 36 dJ12_init_2_25 (by decide) (fun c12 => ?_) (fun c12 => ?_)
  · replace hf := hf.1 c12
    refine v_qload_n (r := (some a0)) (i := 0) dJ12_init_2_36 rfl rfl ?_
    refine v_null dJ12_init_2_37 ?_
    replace hf := pF_e hf
    obtain ⟨fs13, hh14, hf⟩ := hf
    refine v_putf (v := .null) (T := TX8) (ci := 8) (ty := .array (.object "java/lang/StackTraceElement")) 1 dJ12_init_2_38 q568 rfl in_X8 tyX8 tyX8_ok nmX8 (Nat.le_of_ble_eq_true rfl) (Or.inl rfl) rfl (by decide +kernel) rfl rfl hh14 ?_
    obtain ⟨h15, eh15⟩ : ∃ z, z = hs h11 a0 (true, .inr (8, fs13.set 1 (.null))) := ⟨_, rfl⟩
    try rw [← eh15] at hf
    rw [← eh15]
    refine v_qload_n (r := (some a0)) (i := 0) dJ12_init_2_41 rfl rfl ?_
    refine v_qload_n (r := r_1) (i := 1) dJ12_init_2_42 rfl rfl ?_
    replace hf := pF_e hf
    obtain ⟨fs16, hh17, hf⟩ := hf
    refine v_putf (v := va_rf r_1) (T := TX8) (ci := 8) (ty := .object "java/lang/String") 3 dJ12_init_2_43 q566 rfl in_X8 tyX8 tyX8_ok nmX8 (Nat.le_of_ble_eq_true rfl) (Or.inl rfl) rfl (by decide +kernel) (rf_nar _ _) (rf_fit _ _) hh17 ?_
    obtain ⟨h18, eh18⟩ : ∃ z, z = hs h15 a0 (true, .inr (8, fs16.set 3 (va_rf r_1))) := ⟨_, rfl⟩
    try rw [← eh18] at hf
    rw [← eh18]
    refine v_qload_n (r := (some a0)) (i := 0) dJ12_init_2_46 rfl rfl ?_
    refine v_qload_n (r := r_2) (i := 2) dJ12_init_2_47 rfl rfl ?_
    replace hf := pF_e hf
    obtain ⟨fs19, hh20, hf⟩ := hf
    refine v_putf (v := va_rf r_2) (T := TX8) (ci := 8) (ty := .object "java/lang/Throwable") 0 dJ12_init_2_48 q567 rfl in_X8 tyX8 tyX8_ok nmX8 (Nat.le_of_ble_eq_true rfl) (Or.inl rfl) rfl (by decide +kernel) (rf_nar _ _) (rf_fit _ _) hh20 ?_
    obtain ⟨h21, eh21⟩ : ∃ z, z = hs h18 a0 (true, .inr (8, fs19.set 0 (va_rf r_2))) := ⟨_, rfl⟩
    try rw [← eh21] at hf
    rw [← eh21]
    refine v_iload_n (i := 3) dJ12_init_2_51 rfl rfl ?_
    refine v_if_ne 60 dJ12_init_2_52 (by decide) (fun c22 => ?_) (fun c22 => ?_)
    · replace hf := hf.1 c22
      exact v_vret dJ12_init_2_60 rfl ⟨rfl, hf⟩
    · replace hf := hf.2 c22
      refine v_qload_n (r := (some a0)) (i := 0) dJ12_init_2_55 rfl rfl ?_
      refine v_null dJ12_init_2_56 ?_
      replace hf := pF_e hf
      obtain ⟨fs23, hh24, hf⟩ := hf
      refine v_putf (v := .null) (T := TX8) (ci := 8) (ty := .object "java/util/List") 2 dJ12_init_2_57 q569 rfl in_X8 tyX8 tyX8_ok nmX8 (Nat.le_of_ble_eq_true rfl) (Or.inl rfl) rfl (by decide +kernel) rfl rfl hh24 ?_
      obtain ⟨h25, eh25⟩ : ∃ z, z = hs h21 a0 (true, .inr (8, fs23.set 2 (.null))) := ⟨_, rfl⟩
      try rw [← eh25] at hf
      rw [← eh25]
      exact v_vret dJ12_init_2_60 rfl ⟨rfl, hf⟩
  · replace hf := hf.2 c12
    refine v_qload_n (r := (some a0)) (i := 0) dJ12_init_2_28 rfl rfl ?_
    exact hf.elim
abbrev Y_J13_init_W : Yt := (yJ13_init, none, 2, 64, [])
def f_J13_init_W (G : Gt) (h : Hp) (t_0 : Option Nat) (r_1 : Option Nat) (r_2 : Option Nat) (i_3 : Int32) (i_4 : Int32) (K : Hp → Prop) : Prop :=
f_J12_init_2_W G h t_0 r_1 r_2 i_3 i_4 (fun h1 =>
K h1)
theorem m_J13_init_W {G : Gt} {h : Hp} {a0 : Nat} {r_1 : Option Nat} {r_2 : Option Nat} {i_3 : Int32} {i_4 : Int32} {K : Hp → Prop} (hG : Base G) (hf : f_J13_init_W G h (some a0) r_1 r_2 i_3 i_4 K) : MM G Y_J13_init_W cJ13_init 5 0 0 [.ref a0, va_rf r_1, va_rf r_2, .int i_3, .int i_4] h (kV K) xN := by
  refine mm_of hG (by decide +kernel) rfl (ac_c rfl (ac_c (rf_cat _) (ac_c (rf_cat _) (ac_c rfl (ac_c rfl ac_nil))))) (Nat.le_of_ble_eq_true rfl) (fun E _ _ => ?_)
  show V G E Y_J13_init_W cJ13_init 5 (QM G E (kV K) xN) h 0 0 0 [(0, .ref a0), (1, va_rf r_1), (2, va_rf r_2), (3, .int i_3), (4, .int i_4)] []
  unfold f_J13_init_W at hf
  refine v_qload_n (r := (some a0)) (i := 0) dJ13_init_0 rfl rfl ?_
  refine v_qload_n (r := r_1) (i := 1) dJ13_init_1 rfl rfl ?_
  refine v_qload_n (r := r_2) (i := 2) dJ13_init_2 rfl rfl ?_
  refine v_iload_n (i := 3) dJ13_init_3 rfl rfl ?_
  refine v_iload (i := 4) dJ13_init_4 rfl ?_
  refine V.addK0 ?_
  refine V.addN0 ?_
  refine v_callI (mc := 0) (ms := 0) 4 dJ13_init_6 (m_J12_init_2_W hG hf) rfl (lw_meth q560) rfl q105 q558 q559 rfl rfl (by decide +kernel) (by decide) rfl (cat_len (Nat.le_of_ble_eq_true rfl)) (kk_V fun h1 hg => ?_) (fun _ _ _ hx => hx.elim)
  replace hf := hg
  clear hg
  exact v_vret dJ13_init_9 rfl ⟨rfl, hf⟩
abbrev Y_X8_init : Yt := (yX8_init, none, 3, 88, [])
def f_X8_init (G : Gt) (h : Hp) (t_0 : Option Nat) (i_1 : Int32) (K : Hp → Prop) : Prop :=
f_J13_init_W G h t_0 none none (0 : Int32) (0 : Int32) (fun h1 =>
pF h1 t_0 8 6 (.int i_1) fun h4 =>
K h4)
theorem m_X8_init {G : Gt} {h : Hp} {a0 : Nat} {i_1 : Int32} {K : Hp → Prop} (hG : Base G) (hf : f_X8_init G h (some a0) i_1 K) : MM G Y_X8_init cX8_init 2 0 0 [.ref a0, .int i_1] h (kV K) xN := by
  refine mm_of hG (by decide +kernel) rfl (ac_c rfl (ac_c rfl ac_nil)) (Nat.le_of_ble_eq_true rfl) (fun E _ _ => ?_)
  show V G E Y_X8_init cX8_init 2 (QM G E (kV K) xN) h 0 0 0 [(0, .ref a0), (1, .int i_1)] []
  unfold f_X8_init at hf
  refine v_qload_n (r := (some a0)) (i := 0) dX8_init_0 rfl rfl ?_
  refine v_null dX8_init_1 ?_
  refine v_null dX8_init_2 ?_
  refine v_iconst (v := 0) dX8_init_3 (by decide) ?_
  refine v_iconst (v := 0) dX8_init_4 (by decide) ?_
  refine V.addK0 ?_
  refine V.addN0 ?_
  refine v_callI (mc := 0) (ms := 0) 4 dX8_init_5 (m_J13_init_W hG hf) rfl (lw_meth q557) rfl q106 q2123 q556 rfl rfl (by decide +kernel) (by decide) rfl (cat_len (Nat.le_of_ble_eq_true rfl)) (kk_V fun h1 hg => ?_) (fun _ _ _ hx => hx.elim)
  replace hf := hg
  clear hg
  refine v_qload_n (r := (some a0)) (i := 0) dX8_init_8 rfl rfl ?_
  refine v_iload_n (i := 1) dX8_init_9 rfl rfl ?_
  replace hf := pF_e hf
  obtain ⟨fs2, hh3, hf⟩ := hf
  refine v_putfF (v := .int i_1) (T := TX8) (ci := 8) (ty := .int) 6 dX8_init_10 q2124 rfl in_X8 tyX8 tyX8_ok nmX8 (Nat.le_of_ble_eq_true rfl) (Or.inl rfl) rfl rfl rfl (by decide +kernel) rfl rfl hh3 ?_
  obtain ⟨h4, eh4⟩ : ∃ z, z = hs h1 a0 (true, .inr (8, fs2.set 6 (.int i_1))) := ⟨_, rfl⟩
  try rw [← eh4] at hf
  rw [← eh4]
  exact v_vret dX8_init_13 rfl ⟨rfl, hf⟩
