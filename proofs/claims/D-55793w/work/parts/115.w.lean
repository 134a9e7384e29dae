/-! walks printed by tools/mkwalk.py -/
set_option maxRecDepth 100000
abbrev Y_J0_init : Yt := (yJ0_init, none, 1, 40, [])
def f_J0_init (G : Gt) (h : Hp) (t_0 : Option Nat) (K : Hp → Prop) : Prop :=
K h
theorem m_J0_init {G : Gt} {h : Hp} {a0 : Nat} {K : Hp → Prop} (hG : Base G) (hf : f_J0_init G h (some a0) K) : MM G Y_J0_init cJ0_init 1 0 0 [.ref a0] h (kV K) xN := by
  refine mm_of hG (by decide +kernel) rfl (ac_c rfl ac_nil) (Nat.le_of_ble_eq_true rfl) (fun E _ _ => ?_)
  show V G E Y_J0_init cJ0_init 1 (QM G E (kV K) xN) h 0 0 0 [(0, .ref a0)] []
  unfold f_J0_init at hf
  refine v_qload_n (r := (some a0)) (i := 0) dJ0_init_0 rfl rfl ?_
  refine v_objInit dJ0_init_1 q166 q153 q154 (cat_len (Nat.le_of_ble_eq_true rfl)) (Nat.le_of_ble_eq_true rfl) (Nat.le_of_ble_eq_true rfl) ?_
  exact v_vret dJ0_init_4 rfl ⟨rfl, hf⟩
abbrev Y_J17_init : Yt := (yJ17_init, none, 2, 60, [])
def f_J17_init (G : Gt) (h : Hp) (t_0 : Option Nat) (K : Hp → Prop) : Prop :=
f_J0_init G h t_0 (fun h1 =>
K h1)
theorem m_J17_init {G : Gt} {h : Hp} {a0 : Nat} {K : Hp → Prop} (hG : Base G) (hf : f_J17_init G h (some a0) K) : MM G Y_J17_init cJ17_init 1 0 0 [.ref a0] h (kV K) xN := by
  refine mm_of hG (by decide +kernel) rfl (ac_c rfl ac_nil) (Nat.le_of_ble_eq_true rfl) (fun E _ _ => ?_)
  show V G E Y_J17_init cJ17_init 1 (QM G E (kV K) xN) h 0 0 0 [(0, .ref a0)] []
  unfold f_J17_init at hf
  refine v_qload_n (r := (some a0)) (i := 0) dJ17_init_0 rfl rfl ?_
  refine V.addK0 ?_
  refine V.addN0 ?_
  refine v_callI (mc := 0) (ms := 0) 0 dJ17_init_1 (m_J0_init hG hf) rfl (lw_meth q165) rfl q90 q789 q164 rfl rfl (by decide +kernel) (by decide) rfl (cat_len (Nat.le_of_ble_eq_true rfl)) (kk_V fun h1 hg => ?_) (fun _ _ _ hx => hx.elim)
  replace hf := hg
  clear hg
  exact v_vret dJ17_init_4 rfl ⟨rfl, hf⟩
abbrev Y_J20_init : Yt := (yJ20_init, none, 1, 40, [])
def f_J20_init (G : Gt) (h : Hp) (t_0 : Option Nat) (K : Hp → Prop) : Prop :=
K h
theorem m_J20_init {G : Gt} {h : Hp} {a0 : Nat} {K : Hp → Prop} (hG : Base G) (hf : f_J20_init G h (some a0) K) : MM G Y_J20_init cJ20_init 1 0 0 [.ref a0] h (kV K) xN := by
  refine mm_of hG (by decide +kernel) rfl (ac_c rfl ac_nil) (Nat.le_of_ble_eq_true rfl) (fun E _ _ => ?_)
  show V G E Y_J20_init cJ20_init 1 (QM G E (kV K) xN) h 0 0 0 [(0, .ref a0)] []
  unfold f_J20_init at hf
  refine v_qload_n (r := (some a0)) (i := 0) dJ20_init_0 rfl rfl ?_
  refine v_objInit dJ20_init_1 q801 q153 q154 (cat_len (Nat.le_of_ble_eq_true rfl)) (Nat.le_of_ble_eq_true rfl) (Nat.le_of_ble_eq_true rfl) ?_
  exact v_vret dJ20_init_4 rfl ⟨rfl, hf⟩
abbrev Y_J24_isNaN : Yt := (yJ24_isNaN, some (.boolean), 1, 40, [])
def f_J24_isNaN (G : Gt) (h : Hp) (w_0 : UInt32) (K : Int32 → Hp → Prop) : Prop :=
((Op.cmpValue (FP.fcmp w_0 w_0) .l = 0 → K (0 : Int32) h) ∧
(¬ (Op.cmpValue (FP.fcmp w_0 w_0) .l = 0) → K (1 : Int32) h))
theorem m_J24_isNaN {G : Gt} {h : Hp} {w_0 : UInt32} {K : Int32 → Hp → Prop} (hG : Base G) (hf : f_J24_isNaN G h w_0 K) : MM G Y_J24_isNaN cJ24_isNaN 1 0 0 [.float w_0] h (kI K) xN := by
  refine mm_of hG (by decide +kernel) rfl (ac_c rfl ac_nil) (Nat.le_of_ble_eq_true rfl) (fun E _ _ => ?_)
  show V G E Y_J24_isNaN cJ24_isNaN 1 (QM G E (kI K) xN) h 0 0 0 [(0, .float w_0)] []
  unfold f_J24_isNaN at hf
  refine v_fload_n (i := 0) dJ24_isNaN_0 rfl rfl ?_
  refine v_fload_n (i := 0) dJ24_isNaN_1 rfl rfl ?_
  refine v_fcmp dJ24_isNaN_2 ?_
  refine v_if_eq 10 dJ24_isNaN_3 (by decide) (fun c1 => ?_) (fun c1 => ?_)
  · replace hf := hf.1 c1
    refine v_iconst (v := 0) dJ24_isNaN_10 (by decide) ?_
    exact v_zret dJ24_isNaN_11 rfl (by decide) ⟨_, rfl, hf⟩
  · replace hf := hf.2 c1
    refine v_iconst (v := 1) dJ24_isNaN_6 (by decide) ?_
    refine v_goto 11 dJ24_isNaN_7 (by decide) ?_
    exact v_zret dJ24_isNaN_11 rfl (by decide) ⟨_, rfl, hf⟩
abbrev Y_J25_numberOfLeadingZeros : Yt := (yJ25_numberOfLeadingZeros, some (.int), 1, 40, [])
def f_J25_numberOfLeadingZeros (G : Gt) (h : Hp) (i_0 : Int32) (K : Int32 → Hp → Prop) : Prop :=
((0 < i_0 → ((i_0 < (65536 : Int32) → ((i_0 < (256 : Int32) → ((i_0 < (16 : Int32) → ((i_0 < (4 : Int32) → K ((31 : Int32) - ((i_0.toUInt32 >>> ((1 : Int32).toUInt32 &&& Int32.toUInt32 31)).toInt32)) h) ∧
(¬ (i_0 < (4 : Int32)) → K (((31 : Int32) + (-2 : Int32)) - ((((i_0.toUInt32 >>> ((2 : Int32).toUInt32 &&& Int32.toUInt32 31)).toInt32).toUInt32 >>> ((1 : Int32).toUInt32 &&& Int32.toUInt32 31)).toInt32)) h))) ∧
(¬ (i_0 < (16 : Int32)) → (((i_0.toUInt32 >>> ((4 : Int32).toUInt32 &&& Int32.toUInt32 31)).toInt32 < (4 : Int32) → K (((31 : Int32) + (-4 : Int32)) - ((((i_0.toUInt32 >>> ((4 : Int32).toUInt32 &&& Int32.toUInt32 31)).toInt32).toUInt32 >>> ((1 : Int32).toUInt32 &&& Int32.toUInt32 31)).toInt32)) h) ∧
(¬ ((i_0.toUInt32 >>> ((4 : Int32).toUInt32 &&& Int32.toUInt32 31)).toInt32 < (4 : Int32)) → K ((((31 : Int32) + (-4 : Int32)) + (-2 : Int32)) - ((((((i_0.toUInt32 >>> ((4 : Int32).toUInt32 &&& Int32.toUInt32 31)).toInt32).toUInt32 >>> ((2 : Int32).toUInt32 &&& Int32.toUInt32 31)).toInt32).toUInt32 >>> ((1 : Int32).toUInt32 &&& Int32.toUInt32 31)).toInt32)) h))))) ∧
(¬ (i_0 < (256 : Int32)) → (((i_0.toUInt32 >>> ((8 : Int32).toUInt32 &&& Int32.toUInt32 31)).toInt32 < (16 : Int32) → (((i_0.toUInt32 >>> ((8 : Int32).toUInt32 &&& Int32.toUInt32 31)).toInt32 < (4 : Int32) → K (((31 : Int32) + (-8 : Int32)) - ((((i_0.toUInt32 >>> ((8 : Int32).toUInt32 &&& Int32.toUInt32 31)).toInt32).toUInt32 >>> ((1 : Int32).toUInt32 &&& Int32.toUInt32 31)).toInt32)) h) ∧
(¬ ((i_0.toUInt32 >>> ((8 : Int32).toUInt32 &&& Int32.toUInt32 31)).toInt32 < (4 : Int32)) → K ((((31 : Int32) + (-8 : Int32)) + (-2 : Int32)) - ((((((i_0.toUInt32 >>> ((8 : Int32).toUInt32 &&& Int32.toUInt32 31)).toInt32).toUInt32 >>> ((2 : Int32).toUInt32 &&& Int32.toUInt32 31)).toInt32).toUInt32 >>> ((1 : Int32).toUInt32 &&& Int32.toUInt32 31)).toInt32)) h))) ∧
(¬ ((i_0.toUInt32 >>> ((8 : Int32).toUInt32 &&& Int32.toUInt32 31)).toInt32 < (16 : Int32)) → (((((i_0.toUInt32 >>> ((8 : Int32).toUInt32 &&& Int32.toUInt32 31)).toInt32).toUInt32 >>> ((4 : Int32).toUInt32 &&& Int32.toUInt32 31)).toInt32 < (4 : Int32) → K ((((31 : Int32) + (-8 : Int32)) + (-4 : Int32)) - ((((((i_0.toUInt32 >>> ((8 : Int32).toUInt32 &&& Int32.toUInt32 31)).toInt32).toUInt32 >>> ((4 : Int32).toUInt32 &&& Int32.toUInt32 31)).toInt32).toUInt32 >>> ((1 : Int32).toUInt32 &&& Int32.toUInt32 31)).toInt32)) h) ∧
(¬ ((((i_0.toUInt32 >>> ((8 : Int32).toUInt32 &&& Int32.toUInt32 31)).toInt32).toUInt32 >>> ((4 : Int32).toUInt32 &&& Int32.toUInt32 31)).toInt32 < (4 : Int32)) → K (((((31 : Int32) + (-8 : Int32)) + (-4 : Int32)) + (-2 : Int32)) - ((((((((i_0.toUInt32 >>> ((8 : Int32).toUInt32 &&& Int32.toUInt32 31)).toInt32).toUInt32 >>> ((4 : Int32).toUInt32 &&& Int32.toUInt32 31)).toInt32).toUInt32 >>> ((2 : Int32).toUInt32 &&& Int32.toUInt32 31)).toInt32).toUInt32 >>> ((1 : Int32).toUInt32 &&& Int32.toUInt32 31)).toInt32)) h))))))) ∧
(¬ (i_0 < (65536 : Int32)) → (((i_0.toUInt32 >>> ((16 : Int32).toUInt32 &&& Int32.toUInt32 31)).toInt32 < (256 : Int32) → (((i_0.toUInt32 >>> ((16 : Int32).toUInt32 &&& Int32.toUInt32 31)).toInt32 < (16 : Int32) → (((i_0.toUInt32 >>> ((16 : Int32).toUInt32 &&& Int32.toUInt32 31)).toInt32 < (4 : Int32) → K (((31 : Int32) + (-16 : Int32)) - ((((i_0.toUInt32 >>> ((16 : Int32).toUInt32 &&& Int32.toUInt32 31)).toInt32).toUInt32 >>> ((1 : Int32).toUInt32 &&& Int32.toUInt32 31)).toInt32)) h) ∧
(¬ ((i_0.toUInt32 >>> ((16 : Int32).toUInt32 &&& Int32.toUInt32 31)).toInt32 < (4 : Int32)) → K ((((31 : Int32) + (-16 : Int32)) + (-2 : Int32)) - ((((((i_0.toUInt32 >>> ((16 : Int32).toUInt32 &&& Int32.toUInt32 31)).toInt32).toUInt32 >>> ((2 : Int32).toUInt32 &&& Int32.toUInt32 31)).toInt32).toUInt32 >>> ((1 : Int32).toUInt32 &&& Int32.toUInt32 31)).toInt32)) h))) ∧
(¬ ((i_0.toUInt32 >>> ((16 : Int32).toUInt32 &&& Int32.toUInt32 31)).toInt32 < (16 : Int32)) → (((((i_0.toUInt32 >>> ((16 : Int32).toUInt32 &&& Int32.toUInt32 31)).toInt32).toUInt32 >>> ((4 : Int32).toUInt32 &&& Int32.toUInt32 31)).toInt32 < (4 : Int32) → K ((((31 : Int32) + (-16 : Int32)) + (-4 : Int32)) - ((((((i_0.toUInt32 >>> ((16 : Int32).toUInt32 &&& Int32.toUInt32 31)).toInt32).toUInt32 >>> ((4 : Int32).toUInt32 &&& Int32.toUInt32 31)).toInt32).toUInt32 >>> ((1 : Int32).toUInt32 &&& Int32.toUInt32 31)).toInt32)) h) ∧
(¬ ((((i_0.toUInt32 >>> ((16 : Int32).toUInt32 &&& Int32.toUInt32 31)).toInt32).toUInt32 >>> ((4 : Int32).toUInt32 &&& Int32.toUInt32 31)).toInt32 < (4 : Int32)) → K (((((31 : Int32) + (-16 : Int32)) + (-4 : Int32)) + (-2 : Int32)) - ((((((((i_0.toUInt32 >>> ((16 : Int32).toUInt32 &&& Int32.toUInt32 31)).toInt32).toUInt32 >>> ((4 : Int32).toUInt32 &&& Int32.toUInt32 31)).toInt32).toUInt32 >>> ((2 : Int32).toUInt32 &&& Int32.toUInt32 31)).toInt32).toUInt32 >>> ((1 : Int32).toUInt32 &&& Int32.toUInt32 31)).toInt32)) h))))) ∧
(¬ ((i_0.toUInt32 >>> ((16 : Int32).toUInt32 &&& Int32.toUInt32 31)).toInt32 < (256 : Int32)) → (((((i_0.toUInt32 >>> ((16 : Int32).toUInt32 &&& Int32.toUInt32 31)).toInt32).toUInt32 >>> ((8 : Int32).toUInt32 &&& Int32.toUInt32 31)).toInt32 < (16 : Int32) → (((((i_0.toUInt32 >>> ((16 : Int32).toUInt32 &&& Int32.toUInt32 31)).toInt32).toUInt32 >>> ((8 : Int32).toUInt32 &&& Int32.toUInt32 31)).toInt32 < (4 : Int32) → K ((((31 : Int32) + (-16 : Int32)) + (-8 : Int32)) - ((((((i_0.toUInt32 >>> ((16 : Int32).toUInt32 &&& Int32.toUInt32 31)).toInt32).toUInt32 >>> ((8 : Int32).toUInt32 &&& Int32.toUInt32 31)).toInt32).toUInt32 >>> ((1 : Int32).toUInt32 &&& Int32.toUInt32 31)).toInt32)) h) ∧
(¬ ((((i_0.toUInt32 >>> ((16 : Int32).toUInt32 &&& Int32.toUInt32 31)).toInt32).toUInt32 >>> ((8 : Int32).toUInt32 &&& Int32.toUInt32 31)).toInt32 < (4 : Int32)) → K (((((31 : Int32) + (-16 : Int32)) + (-8 : Int32)) + (-2 : Int32)) - ((((((((i_0.toUInt32 >>> ((16 : Int32).toUInt32 &&& Int32.toUInt32 31)).toInt32).toUInt32 >>> ((8 : Int32).toUInt32 &&& Int32.toUInt32 31)).toInt32).toUInt32 >>> ((2 : Int32).toUInt32 &&& Int32.toUInt32 31)).toInt32).toUInt32 >>> ((1 : Int32).toUInt32 &&& Int32.toUInt32 31)).toInt32)) h))) ∧
(¬ ((((i_0.toUInt32 >>> ((16 : Int32).toUInt32 &&& Int32.toUInt32 31)).toInt32).toUInt32 >>> ((8 : Int32).toUInt32 &&& Int32.toUInt32 31)).toInt32 < (16 : Int32)) → (((((((i_0.toUInt32 >>> ((16 : Int32).toUInt32 &&& Int32.toUInt32 31)).toInt32).toUInt32 >>> ((8 : Int32).toUInt32 &&& Int32.toUInt32 31)).toInt32).toUInt32 >>> ((4 : Int32).toUInt32 &&& Int32.toUInt32 31)).toInt32 < (4 : Int32) → K (((((31 : Int32) + (-16 : Int32)) + (-8 : Int32)) + (-4 : Int32)) - ((((((((i_0.toUInt32 >>> ((16 : Int32).toUInt32 &&& Int32.toUInt32 31)).toInt32).toUInt32 >>> ((8 : Int32).toUInt32 &&& Int32.toUInt32 31)).toInt32).toUInt32 >>> ((4 : Int32).toUInt32 &&& Int32.toUInt32 31)).toInt32).toUInt32 >>> ((1 : Int32).toUInt32 &&& Int32.toUInt32 31)).toInt32)) h) ∧
(¬ ((((((i_0.toUInt32 >>> ((16 : Int32).toUInt32 &&& Int32.toUInt32 31)).toInt32).toUInt32 >>> ((8 : Int32).toUInt32 &&& Int32.toUInt32 31)).toInt32).toUInt32 >>> ((4 : Int32).toUInt32 &&& Int32.toUInt32 31)).toInt32 < (4 : Int32)) → K ((((((31 : Int32) + (-16 : Int32)) + (-8 : Int32)) + (-4 : Int32)) + (-2 : Int32)) - ((((((((((i_0.toUInt32 >>> ((16 : Int32).toUInt32 &&& Int32.toUInt32 31)).toInt32).toUInt32 >>> ((8 : Int32).toUInt32 &&& Int32.toUInt32 31)).toInt32).toUInt32 >>> ((4 : Int32).toUInt32 &&& Int32.toUInt32 31)).toInt32).toUInt32 >>> ((2 : Int32).toUInt32 &&& Int32.toUInt32 31)).toInt32).toUInt32 >>> ((1 : Int32).toUInt32 &&& Int32.toUInt32 31)).toInt32)) h))))))))) ∧
(¬ (0 < i_0) → ((¬ (i_0 = 0) → K (0 : Int32) h) ∧
(i_0 = 0 → K (32 : Int32) h))))
theorem m_J25_numberOfLeadingZeros {G : Gt} {h : Hp} {i_0 : Int32} {K : Int32 → Hp → Prop} (hG : Base G) (hf : f_J25_numberOfLeadingZeros G h i_0 K) : MM G Y_J25_numberOfLeadingZeros cJ25_numberOfLeadingZeros 2 0 0 [.int i_0] h (kI K) xN := by
  refine mm_of hG (by decide +kernel) rfl (ac_c rfl ac_nil) (Nat.le_of_ble_eq_true rfl) (fun E _ _ => ?_)
  show V G E Y_J25_numberOfLeadingZeros cJ25_numberOfLeadingZeros 2 (QM G E (kI K) xN) h 0 0 0 [(0, .int i_0)] []
  unfold f_J25_numberOfLeadingZeros at hf
  refine v_iload_n (i := 0) dJ25_numberOfLeadingZeros_0 rfl rfl ?_
  refine v_if_gt 15 dJ25_numberOfLeadingZeros_1 (by decide) (fun c1 => ?_) (fun c1 => ?_)
  · replace hf := hf.1 c1
    refine v_bipush (v := 31) dJ25_numberOfLeadingZeros_15 (by decide) ?_
    refine v_istore_n (i := 1) (lv' := [(0, .int i_0), (1, .int (31 : Int32))]) dJ25_numberOfLeadingZeros_17 rfl (Nat.le_of_ble_eq_true rfl) rfl rfl ?_
    refine v_iload_n (i := 0) dJ25_numberOfLeadingZeros_18 rfl rfl ?_
    refine v_ldcw dJ25_numberOfLeadingZeros_19 q812 ?_
    refine v_icmp_lt 33 dJ25_numberOfLeadingZeros_22 (by decide) (fun c2 => ?_) (fun c2 => ?_)
    · replace hf := hf.1 c2
      refine v_iload_n (i := 0) dJ25_numberOfLeadingZeros_33 rfl rfl ?_
      refine v_sipush (v := 256) dJ25_numberOfLeadingZeros_34 (by decide) ?_
      refine v_icmp_lt 48 dJ25_numberOfLeadingZeros_37 (by decide) (fun c3 => ?_) (fun c3 => ?_)
      · replace hf := hf.1 c3
        refine v_iload_n (i := 0) dJ25_numberOfLeadingZeros_48 rfl rfl ?_
        refine v_bipush (v := 16) dJ25_numberOfLeadingZeros_49 (by decide) ?_
        refine v_icmp_lt 61 dJ25_numberOfLeadingZeros_51 (by decide) (fun c4 => ?_) (fun c4 => ?_)
        · replace hf := hf.1 c4
          refine v_iload_n (i := 0) dJ25_numberOfLeadingZeros_61 rfl rfl ?_
          refine v_iconst (v := 4) dJ25_numberOfLeadingZeros_62 (by decide) ?_
          refine v_icmp_lt 73 dJ25_numberOfLeadingZeros_63 (by decide) (fun c5 => ?_) (fun c5 => ?_)
          · replace hf := hf.1 c5
            refine v_iload_n (i := 1) dJ25_numberOfLeadingZeros_73 rfl rfl ?_
            refine v_iload_n (i := 0) dJ25_numberOfLeadingZeros_74 rfl rfl ?_
            refine v_iconst (v := 1) dJ25_numberOfLeadingZeros_75 (by decide) ?_
            refine v_iushr (v := (i_0.toUInt32 >>> ((1 : Int32).toUInt32 &&& Int32.toUInt32 31)).toInt32) dJ25_numberOfLeadingZeros_76 rfl ?_
            refine v_isub dJ25_numberOfLeadingZeros_77 ?_
            exact v_iret dJ25_numberOfLeadingZeros_78 rfl ⟨_, rfl, hf⟩
          · replace hf := hf.2 c5
            refine v_iinc (i := 1) (v := (31 : Int32) + (-2 : Int32)) (lv' := [(0, .int i_0), (1, .int ((31 : Int32) + (-2 : Int32)))]) dJ25_numberOfLeadingZeros_66 rfl rfl (Nat.le_of_ble_eq_true rfl) rfl rfl ?_
            refine v_iload_n (i := 0) dJ25_numberOfLeadingZeros_69 rfl rfl ?_
            refine v_iconst (v := 2) dJ25_numberOfLeadingZeros_70 (by decide) ?_
            refine v_iushr (v := (i_0.toUInt32 >>> ((2 : Int32).toUInt32 &&& Int32.toUInt32 31)).toInt32) dJ25_numberOfLeadingZeros_71 rfl ?_
            refine v_istore_n (i := 0) (lv' := [(0, .int ((i_0.toUInt32 >>> ((2 : Int32).toUInt32 &&& Int32.toUInt32 31)).toInt32)), (1, .int ((31 : Int32) + (-2 : Int32)))]) dJ25_numberOfLeadingZeros_72 rfl (Nat.le_of_ble_eq_true rfl) rfl rfl ?_
            refine v_iload_n (i := 1) dJ25_numberOfLeadingZeros_73 rfl rfl ?_
            refine v_iload_n (i := 0) dJ25_numberOfLeadingZeros_74 rfl rfl ?_
            refine v_iconst (v := 1) dJ25_numberOfLeadingZeros_75 (by decide) ?_
            refine v_iushr (v := (((i_0.toUInt32 >>> ((2 : Int32).toUInt32 &&& Int32.toUInt32 31)).toInt32).toUInt32 >>> ((1 : Int32).toUInt32 &&& Int32.toUInt32 31)).toInt32) dJ25_numberOfLeadingZeros_76 rfl ?_
            refine v_isub dJ25_numberOfLeadingZeros_77 ?_
            exact v_iret dJ25_numberOfLeadingZeros_78 rfl ⟨_, rfl, hf⟩
        · replace hf := hf.2 c4
          refine v_iinc (i := 1) (v := (31 : Int32) + (-4 : Int32)) (lv' := [(0, .int i_0), (1, .int ((31 : Int32) + (-4 : Int32)))]) dJ25_numberOfLeadingZeros_54 rfl rfl (Nat.le_of_ble_eq_true rfl) rfl rfl ?_
          refine v_iload_n (i := 0) dJ25_numberOfLeadingZeros_57 rfl rfl ?_
          refine v_iconst (v := 4) dJ25_numberOfLeadingZeros_58 (by decide) ?_
          refine v_iushr (v := (i_0.toUInt32 >>> ((4 : Int32).toUInt32 &&& Int32.toUInt32 31)).toInt32) dJ25_numberOfLeadingZeros_59 rfl ?_
          refine v_istore_n (i := 0) (lv' := [(0, .int ((i_0.toUInt32 >>> ((4 : Int32).toUInt32 &&& Int32.toUInt32 31)).toInt32)), (1, .int ((31 : Int32) + (-4 : Int32)))]) dJ25_numberOfLeadingZeros_60 rfl (Nat.le_of_ble_eq_true rfl) rfl rfl ?_
          refine v_iload_n (i := 0) dJ25_numberOfLeadingZeros_61 rfl rfl ?_
          refine v_iconst (v := 4) dJ25_numberOfLeadingZeros_62 (by decide) ?_
          refine v_icmp_lt 73 dJ25_numberOfLeadingZeros_63 (by decide) (fun c6 => ?_) (fun c6 => ?_)
          · replace hf := hf.1 c6
            refine v_iload_n (i := 1) dJ25_numberOfLeadingZeros_73 rfl rfl ?_
            refine v_iload_n (i := 0) dJ25_numberOfLeadingZeros_74 rfl rfl ?_
            refine v_iconst (v := 1) dJ25_numberOfLeadingZeros_75 (by decide) ?_
            refine v_iushr (v := (((i_0.toUInt32 >>> ((4 : Int32).toUInt32 &&& Int32.toUInt32 31)).toInt32).toUInt32 >>> ((1 : Int32).toUInt32 &&& Int32.toUInt32 31)).toInt32) dJ25_numberOfLeadingZeros_76 rfl ?_
            refine v_isub dJ25_numberOfLeadingZeros_77 ?_
            exact v_iret dJ25_numberOfLeadingZeros_78 rfl ⟨_, rfl, hf⟩
          · replace hf := hf.2 c6
            refine v_iinc (i := 1) (v := ((31 : Int32) + (-4 : Int32)) + (-2 : Int32)) (lv' := [(0, .int ((i_0.toUInt32 >>> ((4 : Int32).toUInt32 &&& Int32.toUInt32 31)).toInt32)), (1, .int (((31 : Int32) + (-4 : Int32)) + (-2 : Int32)))]) dJ25_numberOfLeadingZeros_66 rfl rfl (Nat.le_of_ble_eq_true rfl) rfl rfl ?_
            refine v_iload_n (i := 0) dJ25_numberOfLeadingZeros_69 rfl rfl ?_
            refine v_iconst (v := 2) dJ25_numberOfLeadingZeros_70 (by decide) ?_
            refine v_iushr (v := (((i_0.toUInt32 >>> ((4 : Int32).toUInt32 &&& Int32.toUInt32 31)).toInt32).toUInt32 >>> ((2 : Int32).toUInt32 &&& Int32.toUInt32 31)).toInt32) dJ25_numberOfLeadingZeros_71 rfl ?_
            refine v_istore_n (i := 0) (lv' := [(0, .int ((((i_0.toUInt32 >>> ((4 : Int32).toUInt32 &&& Int32.toUInt32 31)).toInt32).toUInt32 >>> ((2 : Int32).toUInt32 &&& Int32.toUInt32 31)).toInt32)), (1, .int (((31 : Int32) + (-4 : Int32)) + (-2 : Int32)))]) dJ25_numberOfLeadingZeros_72 rfl (Nat.le_of_ble_eq_true rfl) rfl rfl ?_
            refine v_iload_n (i := 1) dJ25_numberOfLeadingZeros_73 rfl rfl ?_
            refine v_iload_n (i := 0) dJ25_numberOfLeadingZeros_74 rfl rfl ?_
            refine v_iconst (v := 1) dJ25_numberOfLeadingZeros_75 (by decide) ?_
            refine v_iushr (v := (((((i_0.toUInt32 >>> ((4 : Int32).toUInt32 &&& Int32.toUInt32 31)).toInt32).toUInt32 >>> ((2 : Int32).toUInt32 &&& Int32.toUInt32 31)).toInt32).toUInt32 >>> ((1 : Int32).toUInt32 &&& Int32.toUInt32 31)).toInt32) dJ25_numberOfLeadingZeros_76 rfl ?_
            refine v_isub dJ25_numberOfLeadingZeros_77 ?_
            exact v_iret dJ25_numberOfLeadingZeros_78 rfl ⟨_, rfl, hf⟩
      · replace hf := hf.2 c3
        refine v_iinc (i := 1) (v := (31 : Int32) + (-8 : Int32)) (lv' := [(0, .int i_0), (1, .int ((31 : Int32) + (-8 : Int32)))]) dJ25_numberOfLeadingZeros_40 rfl rfl (Nat.le_of_ble_eq_true rfl) rfl rfl ?_
        refine v_iload_n (i := 0) dJ25_numberOfLeadingZeros_43 rfl rfl ?_
        refine v_bipush (v := 8) dJ25_numberOfLeadingZeros_44 (by decide) ?_
        refine v_iushr (v := (i_0.toUInt32 >>> ((8 : Int32).toUInt32 &&& Int32.toUInt32 31)).toInt32) dJ25_numberOfLeadingZeros_46 rfl ?_
        refine v_istore_n (i := 0) (lv' := [(0, .int ((i_0.toUInt32 >>> ((8 : Int32).toUInt32 &&& Int32.toUInt32 31)).toInt32)), (1, .int ((31 : Int32) + (-8 : Int32)))]) dJ25_numberOfLeadingZeros_47 rfl (Nat.le_of_ble_eq_true rfl) rfl rfl ?_
        refine v_iload_n (i := 0) dJ25_numberOfLeadingZeros_48 rfl rfl ?_
        refine v_bipush (v := 16) dJ25_numberOfLeadingZeros_49 (by decide) ?_
        refine v_icmp_lt 61 dJ25_numberOfLeadingZeros_51 (by decide) (fun c7 => ?_) (fun c7 => ?_)
        · replace hf := hf.1 c7
          refine v_iload_n (i := 0) dJ25_numberOfLeadingZeros_61 rfl rfl ?_
          refine v_iconst (v := 4) dJ25_numberOfLeadingZeros_62 (by decide) ?_
          refine v_icmp_lt 73 dJ25_numberOfLeadingZeros_63 (by decide) (fun c8 => ?_) (fun c8 => ?_)
          · replace hf := hf.1 c8
            refine v_iload_n (i := 1) dJ25_numberOfLeadingZeros_73 rfl rfl ?_
            refine v_iload_n (i := 0) dJ25_numberOfLeadingZeros_74 rfl rfl ?_
            refine v_iconst (v := 1) dJ25_numberOfLeadingZeros_75 (by decide) ?_
            refine v_iushr (v := (((i_0.toUInt32 >>> ((8 : Int32).toUInt32 &&& Int32.toUInt32 31)).toInt32).toUInt32 >>> ((1 : Int32).toUInt32 &&& Int32.toUInt32 31)).toInt32) dJ25_numberOfLeadingZeros_76 rfl ?_
            refine v_isub dJ25_numberOfLeadingZeros_77 ?_
            exact v_iret dJ25_numberOfLeadingZeros_78 rfl ⟨_, rfl, hf⟩
          · replace hf := hf.2 c8
            refine v_iinc (i := 1) (v := ((31 : Int32) + (-8 : Int32)) + (-2 : Int32)) (lv' := [(0, .int ((i_0.toUInt32 >>> ((8 : Int32).toUInt32 &&& Int32.toUInt32 31)).toInt32)), (1, .int (((31 : Int32) + (-8 : Int32)) + (-2 : Int32)))]) dJ25_numberOfLeadingZeros_66 rfl rfl (Nat.le_of_ble_eq_true rfl) rfl rfl ?_
            refine v_iload_n (i := 0) dJ25_numberOfLeadingZeros_69 rfl rfl ?_
            refine v_iconst (v := 2) dJ25_numberOfLeadingZeros_70 (by decide) ?_
            refine v_iushr (v := (((i_0.toUInt32 >>> ((8 : Int32).toUInt32 &&& Int32.toUInt32 31)).toInt32).toUInt32 >>> ((2 : Int32).toUInt32 &&& Int32.toUInt32 31)).toInt32) dJ25_numberOfLeadingZeros_71 rfl ?_
            refine v_istore_n (i := 0) (lv' := [(0, .int ((((i_0.toUInt32 >>> ((8 : Int32).toUInt32 &&& Int32.toUInt32 31)).toInt32).toUInt32 >>> ((2 : Int32).toUInt32 &&& Int32.toUInt32 31)).toInt32)), (1, .int (((31 : Int32) + (-8 : Int32)) + (-2 : Int32)))]) dJ25_numberOfLeadingZeros_72 rfl (Nat.le_of_ble_eq_true rfl) rfl rfl ?_
            refine v_iload_n (i := 1) dJ25_numberOfLeadingZeros_73 rfl rfl ?_
            refine v_iload_n (i := 0) dJ25_numberOfLeadingZeros_74 rfl rfl ?_
            refine v_iconst (v := 1) dJ25_numberOfLeadingZeros_75 (by decide) ?_
            refine v_iushr (v := (((((i_0.toUInt32 >>> ((8 : Int32).toUInt32 &&& Int32.toUInt32 31)).toInt32).toUInt32 >>> ((2 : Int32).toUInt32 &&& Int32.toUInt32 31)).toInt32).toUInt32 >>> ((1 : Int32).toUInt32 &&& Int32.toUInt32 31)).toInt32) dJ25_numberOfLeadingZeros_76 rfl ?_
            refine v_isub dJ25_numberOfLeadingZeros_77 ?_
            exact v_iret dJ25_numberOfLeadingZeros_78 rfl ⟨_, rfl, hf⟩
        · replace hf := hf.2 c7
          refine v_iinc (i := 1) (v := ((31 : Int32) + (-8 : Int32)) + (-4 : Int32)) (lv' := [(0, .int ((i_0.toUInt32 >>> ((8 : Int32).toUInt32 &&& Int32.toUInt32 31)).toInt32)), (1, .int (((31 : Int32) + (-8 : Int32)) + (-4 : Int32)))]) dJ25_numberOfLeadingZeros_54 rfl rfl (Nat.le_of_ble_eq_true rfl) rfl rfl ?_
          refine v_iload_n (i := 0) dJ25_numberOfLeadingZeros_57 rfl rfl ?_
          refine v_iconst (v := 4) dJ25_numberOfLeadingZeros_58 (by decide) ?_
          refine v_iushr (v := (((i_0.toUInt32 >>> ((8 : Int32).toUInt32 &&& Int32.toUInt32 31)).toInt32).toUInt32 >>> ((4 : Int32).toUInt32 &&& Int32.toUInt32 31)).toInt32) dJ25_numberOfLeadingZeros_59 rfl ?_
          refine v_istore_n (i := 0) (lv' := [(0, .int ((((i_0.toUInt32 >>> ((8 : Int32).toUInt32 &&& Int32.toUInt32 31)).toInt32).toUInt32 >>> ((4 : Int32).toUInt32 &&& Int32.toUInt32 31)).toInt32)), (1, .int (((31 : Int32) + (-8 : Int32)) + (-4 : Int32)))]) dJ25_numberOfLeadingZeros_60 rfl (Nat.le_of_ble_eq_true rfl) rfl rfl ?_
          refine v_iload_n (i := 0) dJ25_numberOfLeadingZeros_61 rfl rfl ?_
          refine v_iconst (v := 4) dJ25_numberOfLeadingZeros_62 (by decide) ?_
          refine v_icmp_lt 73 dJ25_numberOfLeadingZeros_63 (by decide) (fun c9 => ?_) (fun c9 => ?_)
          · replace hf := hf.1 c9
            refine v_iload_n (i := 1) dJ25_numberOfLeadingZeros_73 rfl rfl ?_
            refine v_iload_n (i := 0) dJ25_numberOfLeadingZeros_74 rfl rfl ?_
            refine v_iconst (v := 1) dJ25_numberOfLeadingZeros_75 (by decide) ?_
            refine v_iushr (v := (((((i_0.toUInt32 >>> ((8 : Int32).toUInt32 &&& Int32.toUInt32 31)).toInt32).toUInt32 >>> ((4 : Int32).toUInt32 &&& Int32.toUInt32 31)).toInt32).toUInt32 >>> ((1 : Int32).toUInt32 &&& Int32.toUInt32 31)).toInt32) dJ25_numberOfLeadingZeros_76 rfl ?_
            refine v_isub dJ25_numberOfLeadingZeros_77 ?_
            exact v_iret dJ25_numberOfLeadingZeros_78 rfl ⟨_, rfl, hf⟩
          · replace hf := hf.2 c9
            refine v_iinc (i := 1) (v := (((31 : Int32) + (-8 : Int32)) + (-4 : Int32)) + (-2 : Int32)) (lv' := [(0, .int ((((i_0.toUInt32 >>> ((8 : Int32).toUInt32 &&& Int32.toUInt32 31)).toInt32).toUInt32 >>> ((4 : Int32).toUInt32 &&& Int32.toUInt32 31)).toInt32)), (1, .int ((((31 : Int32) + (-8 : Int32)) + (-4 : Int32)) + (-2 : Int32)))]) dJ25_numberOfLeadingZeros_66 rfl rfl (Nat.le_of_ble_eq_true rfl) rfl rfl ?_
            refine v_iload_n (i := 0) dJ25_numberOfLeadingZeros_69 rfl rfl ?_
            refine v_iconst (v := 2) dJ25_numberOfLeadingZeros_70 (by decide) ?_
            refine v_iushr (v := (((((i_0.toUInt32 >>> ((8 : Int32).toUInt32 &&& Int32.toUInt32 31)).toInt32).toUInt32 >>> ((4 : Int32).toUInt32 &&& Int32.toUInt32 31)).toInt32).toUInt32 >>> ((2 : Int32).toUInt32 &&& Int32.toUInt32 31)).toInt32) dJ25_numberOfLeadingZeros_71 rfl ?_
            refine v_istore_n (i := 0) (lv' := [(0, .int ((((((i_0.toUInt32 >>> ((8 : Int32).toUInt32 &&& Int32.toUInt32 31)).toInt32).toUInt32 >>> ((4 : Int32).toUInt32 &&& Int32.toUInt32 31)).toInt32).toUInt32 >>> ((2 : Int32).toUInt32 &&& Int32.toUInt32 31)).toInt32)), (1, .int ((((31 : Int32) + (-8 : Int32)) + (-4 : Int32)) + (-2 : Int32)))]) dJ25_numberOfLeadingZeros_72 rfl (Nat.le_of_ble_eq_true rfl) rfl rfl ?_
            refine v_iload_n (i := 1) dJ25_numberOfLeadingZeros_73 rfl rfl ?_
            refine v_iload_n (i := 0) dJ25_numberOfLeadingZeros_74 rfl rfl ?_
            refine v_iconst (v := 1) dJ25_numberOfLeadingZeros_75 (by decide) ?_
            refine v_iushr (v := (((((((i_0.toUInt32 >>> ((8 : Int32).toUInt32 &&& Int32.toUInt32 31)).toInt32).toUInt32 >>> ((4 : Int32).toUInt32 &&& Int32.toUInt32 31)).toInt32).toUInt32 >>> ((2 : Int32).toUInt32 &&& Int32.toUInt32 31)).toInt32).toUInt32 >>> ((1 : Int32).toUInt32 &&& Int32.toUInt32 31)).toInt32) dJ25_numberOfLeadingZeros_76 rfl ?_
            refine v_isub dJ25_numberOfLeadingZeros_77 ?_
            exact v_iret dJ25_numberOfLeadingZeros_78 rfl ⟨_, rfl, hf⟩
    · replace hf := hf.2 c2
      refine v_iinc (i := 1) (v := (31 : Int32) + (-16 : Int32)) (lv' := [(0, .int i_0), (1, .int ((31 : Int32) + (-16 : Int32)))]) dJ25_numberOfLeadingZeros_25 rfl rfl (Nat.le_of_ble_eq_true rfl) rfl rfl ?_
      refine v_iload_n (i := 0) dJ25_numberOfLeadingZeros_28 rfl rfl ?_
      refine v_bipush (v := 16) dJ25_numberOfLeadingZeros_29 (by decide) ?_
      refine v_iushr (v := (i_0.toUInt32 >>> ((16 : Int32).toUInt32 &&& Int32.toUInt32 31)).toInt32) dJ25_numberOfLeadingZeros_31 rfl ?_
      refine v_istore_n (i := 0) (lv' := [(0, .int ((i_0.toUInt32 >>> ((16 : Int32).toUInt32 &&& Int32.toUInt32 31)).toInt32)), (1, .int ((31 : Int32) + (-16 : Int32)))]) dJ25_numberOfLeadingZeros_32 rfl (Nat.le_of_ble_eq_true rfl) rfl rfl ?_
      refine v_iload_n (i := 0) dJ25_numberOfLeadingZeros_33 rfl rfl ?_
      refine v_sipush (v := 256) dJ25_numberOfLeadingZeros_34 (by decide) ?_
      refine v_icmp_lt 48 dJ25_numberOfLeadingZeros_37 (by decide) (fun c10 => ?_) (fun c10 => ?_)
      · replace hf := hf.1 c10
        refine v_iload_n (i := 0) dJ25_numberOfLeadingZeros_48 rfl rfl ?_
        refine v_bipush (v := 16) dJ25_numberOfLeadingZeros_49 (by decide) ?_
        refine v_icmp_lt 61 dJ25_numberOfLeadingZeros_51 (by decide) (fun c11 => ?_) (fun c11 => ?_)
        · replace hf := hf.1 c11
          refine v_iload_n (i := 0) dJ25_numberOfLeadingZeros_61 rfl rfl ?_
          refine v_iconst (v := 4) dJ25_numberOfLeadingZeros_62 (by decide) ?_
          refine v_icmp_lt 73 dJ25_numberOfLeadingZeros_63 (by decide) (fun c12 => ?_) (fun c12 => ?_)
          · replace hf := hf.1 c12
            refine v_iload_n (i := 1) dJ25_numberOfLeadingZeros_73 rfl rfl ?_
            refine v_iload_n (i := 0) dJ25_numberOfLeadingZeros_74 rfl rfl ?_
            refine v_iconst (v := 1) dJ25_numberOfLeadingZeros_75 (by decide) ?_
            refine v_iushr (v := (((i_0.toUInt32 >>> ((16 : Int32).toUInt32 &&& Int32.toUInt32 31)).toInt32).toUInt32 >>> ((1 : Int32).toUInt32 &&& Int32.toUInt32 31)).toInt32) dJ25_numberOfLeadingZeros_76 rfl ?_
            refine v_isub dJ25_numberOfLeadingZeros_77 ?_
            exact v_iret dJ25_numberOfLeadingZeros_78 rfl ⟨_, rfl, hf⟩
          · replace hf := hf.2 c12
            refine v_iinc (i := 1) (v := ((31 : Int32) + (-16 : Int32)) + (-2 : Int32)) (lv' := [(0, .int ((i_0.toUInt32 >>> ((16 : Int32).toUInt32 &&& Int32.toUInt32 31)).toInt32)), (1, .int (((31 : Int32) + (-16 : Int32)) + (-2 : Int32)))]) dJ25_numberOfLeadingZeros_66 rfl rfl (Nat.le_of_ble_eq_true rfl) rfl rfl ?_
            refine v_iload_n (i := 0) dJ25_numberOfLeadingZeros_69 rfl rfl ?_
            refine v_iconst (v := 2) dJ25_numberOfLeadingZeros_70 (by decide) ?_
            refine v_iushr (v := (((i_0.toUInt32 >>> ((16 : Int32).toUInt32 &&& Int32.toUInt32 31)).toInt32).toUInt32 >>> ((2 : Int32).toUInt32 &&& Int32.toUInt32 31)).toInt32) dJ25_numberOfLeadingZeros_71 rfl ?_
            refine v_istore_n (i := 0) (lv' := [(0, .int ((((i_0.toUInt32 >>> ((16 : Int32).toUInt32 &&& Int32.toUInt32 31)).toInt32).toUInt32 >>> ((2 : Int32).toUInt32 &&& Int32.toUInt32 31)).toInt32)), (1, .int (((31 : Int32) + (-16 : Int32)) + (-2 : Int32)))]) dJ25_numberOfLeadingZeros_72 rfl (Nat.le_of_ble_eq_true rfl) rfl rfl ?_
            refine v_iload_n (i := 1) dJ25_numberOfLeadingZeros_73 rfl rfl ?_
            refine v_iload_n (i := 0) dJ25_numberOfLeadingZeros_74 rfl rfl ?_
            refine v_iconst (v := 1) dJ25_numberOfLeadingZeros_75 (by decide) ?_
            refine v_iushr (v := (((((i_0.toUInt32 >>> ((16 : Int32).toUInt32 &&& Int32.toUInt32 31)).toInt32).toUInt32 >>> ((2 : Int32).toUInt32 &&& Int32.toUInt32 31)).toInt32).toUInt32 >>> ((1 : Int32).toUInt32 &&& Int32.toUInt32 31)).toInt32) dJ25_numberOfLeadingZeros_76 rfl ?_
            refine v_isub dJ25_numberOfLeadingZeros_77 ?_
            exact v_iret dJ25_numberOfLeadingZeros_78 rfl ⟨_, rfl, hf⟩
        · replace hf := hf.2 c11
          refine v_iinc (i := 1) (v := ((31 : Int32) + (-16 : Int32)) + (-4 : Int32)) (lv' := [(0, .int ((i_0.toUInt32 >>> ((16 : Int32).toUInt32 &&& Int32.toUInt32 31)).toInt32)), (1, .int (((31 : Int32) + (-16 : Int32)) + (-4 : Int32)))]) dJ25_numberOfLeadingZeros_54 rfl rfl (Nat.le_of_ble_eq_true rfl) rfl rfl ?_
          refine v_iload_n (i := 0) dJ25_numberOfLeadingZeros_57 rfl rfl ?_
          refine v_iconst (v := 4) dJ25_numberOfLeadingZeros_58 (by decide) ?_
          refine v_iushr (v := (((i_0.toUInt32 >>> ((16 : Int32).toUInt32 &&& Int32.toUInt32 31)).toInt32).toUInt32 >>> ((4 : Int32).toUInt32 &&& Int32.toUInt32 31)).toInt32) dJ25_numberOfLeadingZeros_59 rfl ?_
          refine v_istore_n (i := 0) (lv' := [(0, .int ((((i_0.toUInt32 >>> ((16 : Int32).toUInt32 &&& Int32.toUInt32 31)).toInt32).toUInt32 >>> ((4 : Int32).toUInt32 &&& Int32.toUInt32 31)).toInt32)), (1, .int (((31 : Int32) + (-16 : Int32)) + (-4 : Int32)))]) dJ25_numberOfLeadingZeros_60 rfl (Nat.le_of_ble_eq_true rfl) rfl rfl ?_
          refine v_iload_n (i := 0) dJ25_numberOfLeadingZeros_61 rfl rfl ?_
          refine v_iconst (v := 4) dJ25_numberOfLeadingZeros_62 (by decide) ?_
          refine v_icmp_lt 73 dJ25_numberOfLeadingZeros_63 (by decide) (fun c13 => ?_) (fun c13 => ?_)
          · replace hf := hf.1 c13
            refine v_iload_n (i := 1) dJ25_numberOfLeadingZeros_73 rfl rfl ?_
            refine v_iload_n (i := 0) dJ25_numberOfLeadingZeros_74 rfl rfl ?_
            refine v_iconst (v := 1) dJ25_numberOfLeadingZeros_75 (by decide) ?_
            refine v_iushr (v := (((((i_0.toUInt32 >>> ((16 : Int32).toUInt32 &&& Int32.toUInt32 31)).toInt32).toUInt32 >>> ((4 : Int32).toUInt32 &&& Int32.toUInt32 31)).toInt32).toUInt32 >>> ((1 : Int32).toUInt32 &&& Int32.toUInt32 31)).toInt32) dJ25_numberOfLeadingZeros_76 rfl ?_
            refine v_isub dJ25_numberOfLeadingZeros_77 ?_
            exact v_iret dJ25_numberOfLeadingZeros_78 rfl ⟨_, rfl, hf⟩
          · replace hf := hf.2 c13
            refine v_iinc (i := 1) (v := (((31 : Int32) + (-16 : Int32)) + (-4 : Int32)) + (-2 : Int32)) (lv' := [(0, .int ((((i_0.toUInt32 >>> ((16 : Int32).toUInt32 &&& Int32.toUInt32 31)).toInt32).toUInt32 >>> ((4 : Int32).toUInt32 &&& Int32.toUInt32 31)).toInt32)), (1, .int ((((31 : Int32) + (-16 : Int32)) + (-4 : Int32)) + (-2 : Int32)))]) dJ25_numberOfLeadingZeros_66 rfl rfl (Nat.le_of_ble_eq_true rfl) rfl rfl ?_
            refine v_iload_n (i := 0) dJ25_numberOfLeadingZeros_69 rfl rfl ?_
            refine v_iconst (v := 2) dJ25_numberOfLeadingZeros_70 (by decide) ?_
            refine v_iushr (v := (((((i_0.toUInt32 >>> ((16 : Int32).toUInt32 &&& Int32.toUInt32 31)).toInt32).toUInt32 >>> ((4 : Int32).toUInt32 &&& Int32.toUInt32 31)).toInt32).toUInt32 >>> ((2 : Int32).toUInt32 &&& Int32.toUInt32 31)).toInt32) dJ25_numberOfLeadingZeros_71 rfl ?_
            refine v_istore_n (i := 0) (lv' := [(0, .int ((((((i_0.toUInt32 >>> ((16 : Int32).toUInt32 &&& Int32.toUInt32 31)).toInt32).toUInt32 >>> ((4 : Int32).toUInt32 &&& Int32.toUInt32 31)).toInt32).toUInt32 >>> ((2 : Int32).toUInt32 &&& Int32.toUInt32 31)).toInt32)), (1, .int ((((31 : Int32) + (-16 : Int32)) + (-4 : Int32)) + (-2 : Int32)))]) dJ25_numberOfLeadingZeros_72 rfl (Nat.le_of_ble_eq_true rfl) rfl rfl ?_
            refine v_iload_n (i := 1) dJ25_numberOfLeadingZeros_73 rfl rfl ?_
            refine v_iload_n (i := 0) dJ25_numberOfLeadingZeros_74 rfl rfl ?_
            refine v_iconst (v := 1) dJ25_numberOfLeadingZeros_75 (by decide) ?_
            refine v_iushr (v := (((((((i_0.toUInt32 >>> ((16 : Int32).toUInt32 &&& Int32.toUInt32 31)).toInt32).toUInt32 >>> ((4 : Int32).toUInt32 &&& Int32.toUInt32 31)).toInt32).toUInt32 >>> ((2 : Int32).toUInt32 &&& Int32.toUInt32 31)).toInt32).toUInt32 >>> ((1 : Int32).toUInt32 &&& Int32.toUInt32 31)).toInt32) dJ25_numberOfLeadingZeros_76 rfl ?_
            refine v_isub dJ25_numberOfLeadingZeros_77 ?_
            exact v_iret dJ25_numberOfLeadingZeros_78 rfl ⟨_, rfl, hf⟩
      · replace hf := hf.2 c10
        refine v_iinc (i := 1) (v := ((31 : Int32) + (-16 : Int32)) + (-8 : Int32)) (lv' := [(0, .int ((i_0.toUInt32 >>> ((16 : Int32).toUInt32 &&& Int32.toUInt32 31)).toInt32)), (1, .int (((31 : Int32) + (-16 : Int32)) + (-8 : Int32)))]) dJ25_numberOfLeadingZeros_40 rfl rfl (Nat.le_of_ble_eq_true rfl) rfl rfl ?_
        refine v_iload_n (i := 0) dJ25_numberOfLeadingZeros_43 rfl rfl ?_
        refine v_bipush (v := 8) dJ25_numberOfLeadingZeros_44 (by decide) ?_
        refine v_iushr (v := (((i_0.toUInt32 >>> ((16 : Int32).toUInt32 &&& Int32.toUInt32 31)).toInt32).toUInt32 >>> ((8 : Int32).toUInt32 &&& Int32.toUInt32 31)).toInt32) dJ25_numberOfLeadingZeros_46 rfl ?_
        refine v_istore_n (i := 0) (lv' := [(0, .int ((((i_0.toUInt32 >>> ((16 : Int32).toUInt32 &&& Int32.toUInt32 31)).toInt32).toUInt32 >>> ((8 : Int32).toUInt32 &&& Int32.toUInt32 31)).toInt32)), (1, .int (((31 : Int32) + (-16 : Int32)) + (-8 : Int32)))]) dJ25_numberOfLeadingZeros_47 rfl (Nat.le_of_ble_eq_true rfl) rfl rfl ?_
        refine v_iload_n (i := 0) dJ25_numberOfLeadingZeros_48 rfl rfl ?_
        refine v_bipush (v := 16) dJ25_numberOfLeadingZeros_49 (by decide) ?_
        refine v_icmp_lt 61 dJ25_numberOfLeadingZeros_51 (by decide) (fun c14 => ?_) (fun c14 => ?_)
        · replace hf := hf.1 c14
          refine v_iload_n (i := 0) dJ25_numberOfLeadingZeros_61 rfl rfl ?_
          refine v_iconst (v := 4) dJ25_numberOfLeadingZeros_62 (by decide) ?_
          refine v_icmp_lt 73 dJ25_numberOfLeadingZeros_63 (by decide) (fun c15 => ?_) (fun c15 => ?_)
          · replace hf := hf.1 c15
            refine v_iload_n (i := 1) dJ25_numberOfLeadingZeros_73 rfl rfl ?_
            refine v_iload_n (i := 0) dJ25_numberOfLeadingZeros_74 rfl rfl ?_
            refine v_iconst (v := 1) dJ25_numberOfLeadingZeros_75 (by decide) ?_
            refine v_iushr (v := (((((i_0.toUInt32 >>> ((16 : Int32).toUInt32 &&& Int32.toUInt32 31)).toInt32).toUInt32 >>> ((8 : Int32).toUInt32 &&& Int32.toUInt32 31)).toInt32).toUInt32 >>> ((1 : Int32).toUInt32 &&& Int32.toUInt32 31)).toInt32) dJ25_numberOfLeadingZeros_76 rfl ?_
            refine v_isub dJ25_numberOfLeadingZeros_77 ?_
            exact v_iret dJ25_numberOfLeadingZeros_78 rfl ⟨_, rfl, hf⟩
          · replace hf := hf.2 c15
            refine v_iinc (i := 1) (v := (((31 : Int32) + (-16 : Int32)) + (-8 : Int32)) + (-2 : Int32)) (lv' := [(0, .int ((((i_0.toUInt32 >>> ((16 : Int32).toUInt32 &&& Int32.toUInt32 31)).toInt32).toUInt32 >>> ((8 : Int32).toUInt32 &&& Int32.toUInt32 31)).toInt32)), (1, .int ((((31 : Int32) + (-16 : Int32)) + (-8 : Int32)) + (-2 : Int32)))]) dJ25_numberOfLeadingZeros_66 rfl rfl (Nat.le_of_ble_eq_true rfl) rfl rfl ?_
            refine v_iload_n (i := 0) dJ25_numberOfLeadingZeros_69 rfl rfl ?_
            refine v_iconst (v := 2) dJ25_numberOfLeadingZeros_70 (by decide) ?_
            refine v_iushr (v := (((((i_0.toUInt32 >>> ((16 : Int32).toUInt32 &&& Int32.toUInt32 31)).toInt32).toUInt32 >>> ((8 : Int32).toUInt32 &&& Int32.toUInt32 31)).toInt32).toUInt32 >>> ((2 : Int32).toUInt32 &&& Int32.toUInt32 31)).toInt32) dJ25_numberOfLeadingZeros_71 rfl ?_
            refine v_istore_n (i := 0) (lv' := [(0, .int ((((((i_0.toUInt32 >>> ((16 : Int32).toUInt32 &&& Int32.toUInt32 31)).toInt32).toUInt32 >>> ((8 : Int32).toUInt32 &&& Int32.toUInt32 31)).toInt32).toUInt32 >>> ((2 : Int32).toUInt32 &&& Int32.toUInt32 31)).toInt32)), (1, .int ((((31 : Int32) + (-16 : Int32)) + (-8 : Int32)) + (-2 : Int32)))]) dJ25_numberOfLeadingZeros_72 rfl (Nat.le_of_ble_eq_true rfl) rfl rfl ?_
            refine v_iload_n (i := 1) dJ25_numberOfLeadingZeros_73 rfl rfl ?_
            refine v_iload_n (i := 0) dJ25_numberOfLeadingZeros_74 rfl rfl ?_
            refine v_iconst (v := 1) dJ25_numberOfLeadingZeros_75 (by decide) ?_
            refine v_iushr (v := (((((((i_0.toUInt32 >>> ((16 : Int32).toUInt32 &&& Int32.toUInt32 31)).toInt32).toUInt32 >>> ((8 : Int32).toUInt32 &&& Int32.toUInt32 31)).toInt32).toUInt32 >>> ((2 : Int32).toUInt32 &&& Int32.toUInt32 31)).toInt32).toUInt32 >>> ((1 : Int32).toUInt32 &&& Int32.toUInt32 31)).toInt32) dJ25_numberOfLeadingZeros_76 rfl ?_
            refine v_isub dJ25_numberOfLeadingZeros_77 ?_
            exact v_iret dJ25_numberOfLeadingZeros_78 rfl ⟨_, rfl, hf⟩
        · replace hf := hf.2 c14
          refine v_iinc (i := 1) (v := (((31 : Int32) + (-16 : Int32)) + (-8 : Int32)) + (-4 : Int32)) (lv' := [(0, .int ((((i_0.toUInt32 >>> ((16 : Int32).toUInt32 &&& Int32.toUInt32 31)).toInt32).toUInt32 >>> ((8 : Int32).toUInt32 &&& Int32.toUInt32 31)).toInt32)), (1, .int ((((31 : Int32) + (-16 : Int32)) + (-8 : Int32)) + (-4 : Int32)))]) dJ25_numberOfLeadingZeros_54 rfl rfl (Nat.le_of_ble_eq_true rfl) rfl rfl ?_
          refine v_iload_n (i := 0) dJ25_numberOfLeadingZeros_57 rfl rfl ?_
          refine v_iconst (v := 4) dJ25_numberOfLeadingZeros_58 (by decide) ?_
          refine v_iushr (v := (((((i_0.toUInt32 >>> ((16 : Int32).toUInt32 &&& Int32.toUInt32 31)).toInt32).toUInt32 >>> ((8 : Int32).toUInt32 &&& Int32.toUInt32 31)).toInt32).toUInt32 >>> ((4 : Int32).toUInt32 &&& Int32.toUInt32 31)).toInt32) dJ25_numberOfLeadingZeros_59 rfl ?_
          refine v_istore_n (i := 0) (lv' := [(0, .int ((((((i_0.toUInt32 >>> ((16 : Int32).toUInt32 &&& Int32.toUInt32 31)).toInt32).toUInt32 >>> ((8 : Int32).toUInt32 &&& Int32.toUInt32 31)).toInt32).toUInt32 >>> ((4 : Int32).toUInt32 &&& Int32.toUInt32 31)).toInt32)), (1, .int ((((31 : Int32) + (-16 : Int32)) + (-8 : Int32)) + (-4 : Int32)))]) dJ25_numberOfLeadingZeros_60 rfl (Nat.le_of_ble_eq_true rfl) rfl rfl ?_
          refine v_iload_n (i := 0) dJ25_numberOfLeadingZeros_61 rfl rfl ?_
          refine v_iconst (v := 4) dJ25_numberOfLeadingZeros_62 (by decide) ?_
          refine v_icmp_lt 73 dJ25_numberOfLeadingZeros_63 (by decide) (fun c16 => ?_) (fun c16 => ?_)
          · replace hf := hf.1 c16
            refine v_iload_n (i := 1) dJ25_numberOfLeadingZeros_73 rfl rfl ?_
            refine v_iload_n (i := 0) dJ25_numberOfLeadingZeros_74 rfl rfl ?_
            refine v_iconst (v := 1) dJ25_numberOfLeadingZeros_75 (by decide) ?_
            refine v_iushr (v := (((((((i_0.toUInt32 >>> ((16 : Int32).toUInt32 &&& Int32.toUInt32 31)).toInt32).toUInt32 >>> ((8 : Int32).toUInt32 &&& Int32.toUInt32 31)).toInt32).toUInt32 >>> ((4 : Int32).toUInt32 &&& Int32.toUInt32 31)).toInt32).toUInt32 >>> ((1 : Int32).toUInt32 &&& Int32.toUInt32 31)).toInt32) dJ25_numberOfLeadingZeros_76 rfl ?_
            refine v_isub dJ25_numberOfLeadingZeros_77 ?_
            exact v_iret dJ25_numberOfLeadingZeros_78 rfl ⟨_, rfl, hf⟩
          · replace hf := hf.2 c16
            refine v_iinc (i := 1) (v := ((((31 : Int32) + (-16 : Int32)) + (-8 : Int32)) + (-4 : Int32)) + (-2 : Int32)) (lv' := [(0, .int ((((((i_0.toUInt32 >>> ((16 : Int32).toUInt32 &&& Int32.toUInt32 31)).toInt32).toUInt32 >>> ((8 : Int32).toUInt32 &&& Int32.toUInt32 31)).toInt32).toUInt32 >>> ((4 : Int32).toUInt32 &&& Int32.toUInt32 31)).toInt32)), (1, .int (((((31 : Int32) + (-16 : Int32)) + (-8 : Int32)) + (-4 : Int32)) + (-2 : Int32)))]) dJ25_numberOfLeadingZeros_66 rfl rfl (Nat.le_of_ble_eq_true rfl) rfl rfl ?_
            refine v_iload_n (i := 0) dJ25_numberOfLeadingZeros_69 rfl rfl ?_
            refine v_iconst (v := 2) dJ25_numberOfLeadingZeros_70 (by decide) ?_
            refine v_iushr (v := (((((((i_0.toUInt32 >>> ((16 : Int32).toUInt32 &&& Int32.toUInt32 31)).toInt32).toUInt32 >>> ((8 : Int32).toUInt32 &&& Int32.toUInt32 31)).toInt32).toUInt32 >>> ((4 : Int32).toUInt32 &&& Int32.toUInt32 31)).toInt32).toUInt32 >>> ((2 : Int32).toUInt32 &&& Int32.toUInt32 31)).toInt32) dJ25_numberOfLeadingZeros_71 rfl ?_
            refine v_istore_n (i := 0) (lv' := [(0, .int ((((((((i_0.toUInt32 >>> ((16 : Int32).toUInt32 &&& Int32.toUInt32 31)).toInt32).toUInt32 >>> ((8 : Int32).toUInt32 &&& Int32.toUInt32 31)).toInt32).toUInt32 >>> ((4 : Int32).toUInt32 &&& Int32.toUInt32 31)).toInt32).toUInt32 >>> ((2 : Int32).toUInt32 &&& Int32.toUInt32 31)).toInt32)), (1, .int (((((31 : Int32) + (-16 : Int32)) + (-8 : Int32)) + (-4 : Int32)) + (-2 : Int32)))]) dJ25_numberOfLeadingZeros_72 rfl (Nat.le_of_ble_eq_true rfl) rfl rfl ?_
            refine v_iload_n (i := 1) dJ25_numberOfLeadingZeros_73 rfl rfl ?_
            refine v_iload_n (i := 0) dJ25_numberOfLeadingZeros_74 rfl rfl ?_
            refine v_iconst (v := 1) dJ25_numberOfLeadingZeros_75 (by decide) ?_
            refine v_iushr (v := (((((((((i_0.toUInt32 >>> ((16 : Int32).toUInt32 &&& Int32.toUInt32 31)).toInt32).toUInt32 >>> ((8 : Int32).toUInt32 &&& Int32.toUInt32 31)).toInt32).toUInt32 >>> ((4 : Int32).toUInt32 &&& Int32.toUInt32 31)).toInt32).toUInt32 >>> ((2 : Int32).toUInt32 &&& Int32.toUInt32 31)).toInt32).toUInt32 >>> ((1 : Int32).toUInt32 &&& Int32.toUInt32 31)).toInt32) dJ25_numberOfLeadingZeros_76 rfl ?_
            refine v_isub dJ25_numberOfLeadingZeros_77 ?_
            exact v_iret dJ25_numberOfLeadingZeros_78 rfl ⟨_, rfl, hf⟩
  · replace hf := hf.2 c1
    refine v_iload_n (i := 0) dJ25_numberOfLeadingZeros_4 rfl rfl ?_
    refine v_if_ne 13 dJ25_numberOfLeadingZeros_5 (by decide) (fun c17 => ?_) (fun c17 => ?_)
    · replace hf := hf.1 c17
      refine v_iconst (v := 0) dJ25_numberOfLeadingZeros_13 (by decide) ?_
      exact v_iret dJ25_numberOfLeadingZeros_14 rfl ⟨_, rfl, hf⟩
    · replace hf := hf.2 c17
      refine v_bipush (v := 32) dJ25_numberOfLeadingZeros_8 (by decide) ?_
      refine v_goto 14 dJ25_numberOfLeadingZeros_10 (by decide) ?_
      exact v_iret dJ25_numberOfLeadingZeros_14 rfl ⟨_, rfl, hf⟩
abbrev Y_J21_tableSizeFor : Yt := (yJ21_tableSizeFor, some (.int), 2, 61, [])
def f_J21_tableSizeFor (G : Gt) (h : Hp) (i_0 : Int32) (K : Int32 → Hp → Prop) : Prop :=
f_J25_numberOfLeadingZeros G h (i_0 - (1 : Int32)) (fun i2 h1 =>
((0 ≤ ((-1 : Int32).toUInt32 >>> (i2.toUInt32 &&& Int32.toUInt32 31)).toInt32 → ((((-1 : Int32).toUInt32 >>> (i2.toUInt32 &&& Int32.toUInt32 31)).toInt32 < (1073741824 : Int32) → K ((((-1 : Int32).toUInt32 >>> (i2.toUInt32 &&& Int32.toUInt32 31)).toInt32) + (1 : Int32)) h1) ∧
(¬ (((-1 : Int32).toUInt32 >>> (i2.toUInt32 &&& Int32.toUInt32 31)).toInt32 < (1073741824 : Int32)) → K (1073741824 : Int32) h1))) ∧
(¬ (0 ≤ ((-1 : Int32).toUInt32 >>> (i2.toUInt32 &&& Int32.toUInt32 31)).toInt32) → K (1 : Int32) h1)))
theorem m_J21_tableSizeFor {G : Gt} {h : Hp} {i_0 : Int32} {K : Int32 → Hp → Prop} (hG : Base G) (hf : f_J21_tableSizeFor G h i_0 K) : MM G Y_J21_tableSizeFor cJ21_tableSizeFor 2 0 0 [.int i_0] h (kI K) xN := by
  refine mm_of hG (by decide +kernel) rfl (ac_c rfl ac_nil) (Nat.le_of_ble_eq_true rfl) (fun E _ _ => ?_)
  show V G E Y_J21_tableSizeFor cJ21_tableSizeFor 2 (QM G E (kI K) xN) h 0 0 0 [(0, .int i_0)] []
  unfold f_J21_tableSizeFor at hf
  refine v_iconst (v := -1) dJ21_tableSizeFor_0 (by decide) ?_
  refine v_iload_n (i := 0) dJ21_tableSizeFor_1 rfl rfl ?_
  refine v_iconst (v := 1) dJ21_tableSizeFor_2 (by decide) ?_
  refine v_isub dJ21_tableSizeFor_3 ?_
  refine V.addK0 ?_
  refine V.addN0 ?_
  refine v_callS (mc := 0) (ms := 0) 1 dJ21_tableSizeFor_4 (m_J25_numberOfLeadingZeros hG hf) rfl (lw_S q809 q810 q120 q811) rfl (by decide +kernel) (by decide) rfl (cat_len (Nat.le_of_ble_eq_true rfl)) (kk_I fun i2 h1 hg => ?_) (fun _ _ _ hx => hx.elim)
  replace hf := hg
  clear hg
  refine v_iushr (v := ((-1 : Int32).toUInt32 >>> (i2.toUInt32 &&& Int32.toUInt32 31)).toInt32) dJ21_tableSizeFor_7 rfl ?_
  refine v_istore_n (i := 1) (lv' := [(0, .int i_0), (1, .int (((-1 : Int32).toUInt32 >>> (i2.toUInt32 &&& Int32.toUInt32 31)).toInt32))]) dJ21_tableSizeFor_8 rfl (Nat.le_of_ble_eq_true rfl) rfl rfl ?_
  refine v_iload_n (i := 1) dJ21_tableSizeFor_9 rfl rfl ?_
  refine v_if_ge 17 dJ21_tableSizeFor_10 (by decide) (fun c3 => ?_) (fun c3 => ?_)
  · replace hf := hf.1 c3
    refine v_iload_n (i := 1) dJ21_tableSizeFor_17 rfl rfl ?_
    refine v_ldc dJ21_tableSizeFor_18 q802 ?_
    refine v_icmp_lt 28 dJ21_tableSizeFor_20 (by decide) (fun c4 => ?_) (fun c4 => ?_)
    · replace hf := hf.1 c4
      refine v_iload_n (i := 1) dJ21_tableSizeFor_28 rfl rfl ?_
      refine v_iconst (v := 1) dJ21_tableSizeFor_29 (by decide) ?_
      refine v_iadd dJ21_tableSizeFor_30 ?_
      exact v_iret dJ21_tableSizeFor_31 rfl ⟨_, rfl, hf⟩
    · replace hf := hf.2 c4
      refine v_ldc dJ21_tableSizeFor_23 q802 ?_
      refine v_goto 31 dJ21_tableSizeFor_25 (by decide) ?_
      exact v_iret dJ21_tableSizeFor_31 rfl ⟨_, rfl, hf⟩
  · replace hf := hf.2 c3
    refine v_iconst (v := 1) dJ21_tableSizeFor_13 (by decide) ?_
    refine v_goto 31 dJ21_tableSizeFor_14 (by decide) ?_
    exact v_iret dJ21_tableSizeFor_31 rfl ⟨_, rfl, hf⟩
abbrev Y_J21_init : Yt := (yJ21_init, none, 3, 82, [])
def f_J21_init (G : Gt) (h : Hp) (t_0 : Option Nat) (i_1 : Int32) (w_2 : UInt32) (K : Hp → Prop) : Prop :=
f_J20_init G h t_0 (fun h1 =>
((0 ≤ i_1 → ((i_1 ≤ (1073741824 : Int32) → ((Op.cmpValue (FP.fcmp w_2 FP.fconst0) .g ≤ 0 → False) ∧
(¬ (Op.cmpValue (FP.fcmp w_2 FP.fconst0) .g ≤ 0) → f_J24_isNaN G h1 w_2 (fun i6 h5 =>
((i6 = 0 → pF h5 t_0 17 5 (.float w_2) fun h10 =>
f_J21_tableSizeFor G h10 i_1 (fun i12 h11 =>
pF h11 t_0 17 4 (.int i12) fun h15 =>
K h15)) ∧
(¬ (i6 = 0) → False)))))) ∧
(¬ (i_1 ≤ (1073741824 : Int32)) → ((Op.cmpValue (FP.fcmp w_2 FP.fconst0) .g ≤ 0 → False) ∧
(¬ (Op.cmpValue (FP.fcmp w_2 FP.fconst0) .g ≤ 0) → f_J24_isNaN G h1 w_2 (fun i18 h17 =>
((i18 = 0 → pF h17 t_0 17 5 (.float w_2) fun h22 =>
f_J21_tableSizeFor G h22 (1073741824 : Int32) (fun i24 h23 =>
pF h23 t_0 17 4 (.int i24) fun h27 =>
K h27)) ∧
(¬ (i18 = 0) → False)))))))) ∧
(¬ (0 ≤ i_1) → False)))
theorem m_J21_init {G : Gt} {h : Hp} {a0 : Nat} {i_1 : Int32} {w_2 : UInt32} {K : Hp → Prop} (hG : Base G) (hf : f_J21_init G h (some a0) i_1 w_2 K) : MM G Y_J21_init cJ21_init 3 0 0 [.ref a0, .int i_1, .float w_2] h (kV K) xN := by
  refine mm_of hG (by decide +kernel) rfl (ac_c rfl (ac_c rfl (ac_c rfl ac_nil))) (Nat.le_of_ble_eq_true rfl) (fun E _ _ => ?_)
  show V G E Y_J21_init cJ21_init 3 (QM G E (kV K) xN) h 0 0 0 [(0, .ref a0), (1, .int i_1), (2, .float w_2)] []
  unfold f_J21_init at hf
  refine v_qload_n (r := (some a0)) (i := 0) dJ21_init_0 rfl rfl ?_
  refine V.addK0 ?_
  refine V.addN0 ?_
  refine v_callI (mc := 0) (ms := 0) 0 dJ21_init_1 (m_J20_init hG hf) rfl (lw_meth q800) rfl q115 q798 q799 rfl rfl (by decide +kernel) (by decide) rfl (cat_len (Nat.le_of_ble_eq_true rfl)) (kk_V fun h1 hg => ?_) (fun _ _ _ hx => hx.elim)
  replace hf := hg
  clear hg
  refine v_iload_n (i := 1) dJ21_init_4 rfl rfl ?_
  refine v_if_ge 35 dJ21_init_5 (by decide) (fun c2 => ?_) (fun c2 => ?_)
  · replace hf := hf.1 c2
    refine v_iload_n (i := 1) dJ21_init_35 rfl rfl ?_
    refine v_ldc dJ21_init_36 q802 ?_
    refine v_icmp_le 44 dJ21_init_38 (by decide) (fun c3 => ?_) (fun c3 => ?_)
    · replace hf := hf.1 c3
      refine v_fload_n (i := 2) dJ21_init_44 rfl rfl ?_
      refine v_fconst0 dJ21_init_45 ?_
      refine v_fcmp dJ21_init_46 ?_
      refine v_if_le 57 dJ21_init_47 (by decide) (fun c4 => ?_) (fun c4 => ?_)
      · replace hf := hf.1 c4
        exact hf.elim
      · replace hf := hf.2 c4
        refine v_fload_n (i := 2) dJ21_init_50 rfl rfl ?_
        refine V.addK0 ?_
        refine V.addN0 ?_
        refine v_callS (mc := 0) (ms := 0) 1 dJ21_init_51 (m_J24_isNaN hG hf) rfl (lw_S q803 q804 q119 q805) rfl (by decide +kernel) (by decide) rfl (cat_len (Nat.le_of_ble_eq_true rfl)) (kk_I fun i6 h5 hg => ?_) (fun _ _ _ hx => hx.elim)
        replace hf := hg
        clear hg
        refine v_if_eq 84 dJ21_init_54 (by decide) (fun c7 => ?_) (fun c7 => ?_)
        · replace hf := hf.1 c7
          refine v_qload_n (r := (some a0)) (i := 0) dJ21_init_84 rfl rfl ?_
          refine v_fload_n (i := 2) dJ21_init_85 rfl rfl ?_
          replace hf := pF_e hf
          obtain ⟨fs8, hh9, hf⟩ := hf
          refine v_putfF (v := .float w_2) (T := TJ22) (ci := 17) (ty := .float) 5 dJ21_init_86 q832 rfl in_J22 tyJ22 tyJ22_ok nmJ22 (Nat.le_of_ble_eq_true rfl) (Or.inl rfl) rfl rfl rfl (by decide +kernel) rfl rfl hh9 ?_
          obtain ⟨h10, eh10⟩ : ∃ z, z = hs h5 a0 (true, .inr (17, fs8.set 5 (.float w_2))) := ⟨_, rfl⟩
          try rw [← eh10] at hf
          rw [← eh10]
          refine v_qload_n (r := (some a0)) (i := 0) dJ21_init_89 rfl rfl ?_
          refine v_iload_n (i := 1) dJ21_init_90 rfl rfl ?_
          refine V.addK0 ?_
          refine V.addN0 ?_
          refine v_callS (mc := 0) (ms := 0) 1 dJ21_init_91 (m_J21_tableSizeFor hG hf) rfl (lw_S q806 q807 q116 q808) rfl (by decide +kernel) (by decide) rfl (cat_len (Nat.le_of_ble_eq_true rfl)) (kk_I fun i12 h11 hg => ?_) (fun _ _ _ hx => hx.elim)
          replace hf := hg
          clear hg
          replace hf := pF_e hf
          obtain ⟨fs13, hh14, hf⟩ := hf
          refine v_putf (v := .int i12) (T := TJ22) (ci := 17) (ty := .int) 4 dJ21_init_94 q831 rfl in_J22 tyJ22 tyJ22_ok nmJ22 (Nat.le_of_ble_eq_true rfl) (Or.inl rfl) rfl (by decide +kernel) rfl rfl hh14 ?_
          obtain ⟨h15, eh15⟩ : ∃ z, z = hs h11 a0 (true, .inr (17, fs13.set 4 (.int i12))) := ⟨_, rfl⟩
          try rw [← eh15] at hf
          rw [← eh15]
          exact v_vret dJ21_init_97 rfl ⟨rfl, hf⟩
        · replace hf := hf.2 c7
          exact hf.elim
    · replace hf := hf.2 c3
      refine v_ldc dJ21_init_41 q802 ?_
      refine v_istore_n (i := 1) (lv' := [(0, va_rf (some a0)), (1, .int (1073741824 : Int32)), (2, .float w_2)]) dJ21_init_43 rfl (Nat.le_of_ble_eq_true rfl) rfl rfl ?_
      refine v_fload_n (i := 2) dJ21_init_44 rfl rfl ?_
      refine v_fconst0 dJ21_init_45 ?_
      refine v_fcmp dJ21_init_46 ?_
      refine v_if_le 57 dJ21_init_47 (by decide) (fun c16 => ?_) (fun c16 => ?_)
      · replace hf := hf.1 c16
        exact hf.elim
      · replace hf := hf.2 c16
        refine v_fload_n (i := 2) dJ21_init_50 rfl rfl ?_
        refine V.addK0 ?_
        refine V.addN0 ?_
        refine v_callS (mc := 0) (ms := 0) 1 dJ21_init_51 (m_J24_isNaN hG hf) rfl (lw_S q803 q804 q119 q805) rfl (by decide +kernel) (by decide) rfl (cat_len (Nat.le_of_ble_eq_true rfl)) (kk_I fun i18 h17 hg => ?_) (fun _ _ _ hx => hx.elim)
        replace hf := hg
        clear hg
        refine v_if_eq 84 dJ21_init_54 (by decide) (fun c19 => ?_) (fun c19 => ?_)
        · replace hf := hf.1 c19
          refine v_qload_n (r := (some a0)) (i := 0) dJ21_init_84 rfl rfl ?_
          refine v_fload_n (i := 2) dJ21_init_85 rfl rfl ?_
          replace hf := pF_e hf
          obtain ⟨fs20, hh21, hf⟩ := hf
          refine v_putfF (v := .float w_2) (T := TJ22) (ci := 17) (ty := .float) 5 dJ21_init_86 q832 rfl in_J22 tyJ22 tyJ22_ok nmJ22 (Nat.le_of_ble_eq_true rfl) (Or.inl rfl) rfl rfl rfl (by decide +kernel) rfl rfl hh21 ?_
          obtain ⟨h22, eh22⟩ : ∃ z, z = hs h17 a0 (true, .inr (17, fs20.set 5 (.float w_2))) := ⟨_, rfl⟩
          try rw [← eh22] at hf
          rw [← eh22]
          refine v_qload_n (r := (some a0)) (i := 0) dJ21_init_89 rfl rfl ?_
          refine v_iload_n (i := 1) dJ21_init_90 rfl rfl ?_
          refine V.addK0 ?_
          refine V.addN0 ?_
          refine v_callS (mc := 0) (ms := 0) 1 dJ21_init_91 (m_J21_tableSizeFor hG hf) rfl (lw_S q806 q807 q116 q808) rfl (by decide +kernel) (by decide) rfl (cat_len (Nat.le_of_ble_eq_true rfl)) (kk_I fun i24 h23 hg => ?_) (fun _ _ _ hx => hx.elim)
          replace hf := hg
          clear hg
          replace hf := pF_e hf
          obtain ⟨fs25, hh26, hf⟩ := hf
          refine v_putf (v := .int i24) (T := TJ22) (ci := 17) (ty := .int) 4 dJ21_init_94 q831 rfl in_J22 tyJ22 tyJ22_ok nmJ22 (Nat.le_of_ble_eq_true rfl) (Or.inl rfl) rfl (by decide +kernel) rfl rfl hh26 ?_
          obtain ⟨h27, eh27⟩ : ∃ z, z = hs h23 a0 (true, .inr (17, fs25.set 4 (.int i24))) := ⟨_, rfl⟩
          try rw [← eh27] at hf
          rw [← eh27]
          exact v_vret dJ21_init_97 rfl ⟨rfl, hf⟩
        · replace hf := hf.2 c19
          exact hf.elim
  · replace hf := hf.2 c2
    exact hf.elim
abbrev Y_J22_init : Yt := (yJ22_init, none, 4, 104, [])
def f_J22_init (G : Gt) (h : Hp) (t_0 : Option Nat) (i_1 : Int32) (w_2 : UInt32) (K : Hp → Prop) : Prop :=
f_J21_init G h t_0 i_1 w_2 (fun h1 =>
pF h1 t_0 17 11 (.int (0 : Int32)) fun h4 =>
((narrow .boolean (.int (0 : Int32)) = .int (0 : Int32) ∧ fits .boolean (.int (0 : Int32)) = true) ∧ pF h4 t_0 17 10 (.int (0 : Int32)) fun h7 =>
K h7))
theorem m_J22_init {G : Gt} {h : Hp} {a0 : Nat} {i_1 : Int32} {w_2 : UInt32} {K : Hp → Prop} (hG : Base G) (hf : f_J22_init G h (some a0) i_1 w_2 K) : MM G Y_J22_init cJ22_init 3 0 0 [.ref a0, .int i_1, .float w_2] h (kV K) xN := by
  refine mm_of hG (by decide +kernel) rfl (ac_c rfl (ac_c rfl (ac_c rfl ac_nil))) (Nat.le_of_ble_eq_true rfl) (fun E _ _ => ?_)
  show V G E Y_J22_init cJ22_init 3 (QM G E (kV K) xN) h 0 0 0 [(0, .ref a0), (1, .int i_1), (2, .float w_2)] []
  unfold f_J22_init at hf
  refine v_qload_n (r := (some a0)) (i := 0) dJ22_init_0 rfl rfl ?_
  refine v_iload_n (i := 1) dJ22_init_1 rfl rfl ?_
  refine v_fload_n (i := 2) dJ22_init_2 rfl rfl ?_
  refine V.addK0 ?_
  refine V.addN0 ?_
  refine v_callI (mc := 0) (ms := 0) 2 dJ22_init_3 (m_J21_init hG hf) rfl (lw_meth q797) rfl q116 q795 q796 rfl rfl (by decide +kernel) (by decide) rfl (cat_len (Nat.le_of_ble_eq_true rfl)) (kk_V fun h1 hg => ?_) (fun _ _ _ hx => hx.elim)
  replace hf := hg
  clear hg
  refine v_qload_n (r := (some a0)) (i := 0) dJ22_init_6 rfl rfl ?_
  refine v_iconst (v := 0) dJ22_init_7 (by decide) ?_
  replace hf := pF_e hf
  obtain ⟨fs2, hh3, hf⟩ := hf
  refine v_putf (v := .int (0 : Int32)) (T := TJ22) (ci := 17) (ty := .int) 11 dJ22_init_8 q818 rfl in_J22 tyJ22 tyJ22_ok nmJ22 (Nat.le_of_ble_eq_true rfl) (Or.inl rfl) rfl (by decide +kernel) rfl rfl hh3 ?_
  obtain ⟨h4, eh4⟩ : ∃ z, z = hs h1 a0 (true, .inr (17, fs2.set 11 (.int (0 : Int32)))) := ⟨_, rfl⟩
  try rw [← eh4] at hf
  rw [← eh4]
  refine v_qload_n (r := (some a0)) (i := 0) dJ22_init_11 rfl rfl ?_
  refine v_iconst (v := 0) dJ22_init_12 (by decide) ?_
  obtain ⟨hnr, hf⟩ := hf
  replace hf := pF_e hf
  obtain ⟨fs5, hh6, hf⟩ := hf
  refine v_putfF (v := .int (0 : Int32)) (T := TJ22) (ci := 17) (ty := .boolean) 10 dJ22_init_13 q817 rfl in_J22 tyJ22 tyJ22_ok nmJ22 (Nat.le_of_ble_eq_true rfl) (Or.inl rfl) rfl rfl rfl (by decide +kernel) hnr.1 hnr.2 hh6 ?_
  obtain ⟨h7, eh7⟩ : ∃ z, z = hs h4 a0 (true, .inr (17, fs5.set 10 (.int (0 : Int32)))) := ⟨_, rfl⟩
  try rw [← eh7] at hf
  rw [← eh7]
  exact v_vret dJ22_init_16 rfl ⟨rfl, hf⟩
abbrev Y_J18_init : Yt := (yJ18_init, none, 5, 126, [])
def f_J18_init (G : Gt) (h : Hp) (t_0 : Option Nat) (i_1 : Int32) (w_2 : UInt32) (i_3 : Int32) (K : Hp → Prop) : Prop :=
f_J17_init G h t_0 (fun h1 =>
nO h1 17 [.null, .null, .int 0, .int 0, .int 0, .float 0, .null, .null, .null, .null, .int 0, .int 0] fun a2 h3 =>
f_J22_init G h3 (some a2) i_1 w_2 (fun h4 =>
pF h4 t_0 16 0 (.ref a2) fun h7 =>
K h7))
theorem m_J18_init {G : Gt} {h : Hp} {a0 : Nat} {i_1 : Int32} {w_2 : UInt32} {i_3 : Int32} {K : Hp → Prop} (hG : Base G) (hf : f_J18_init G h (some a0) i_1 w_2 i_3 K) : MM G Y_J18_init cJ18_init 4 1 12 [.ref a0, .int i_1, .float w_2, .int i_3] h (kV K) xN := by
  refine mm_of hG (by decide +kernel) rfl (ac_c rfl (ac_c rfl (ac_c rfl (ac_c rfl ac_nil)))) (Nat.le_of_ble_eq_true rfl) (fun E _ _ => ?_)
  show V G E Y_J18_init cJ18_init 4 (QM G E (kV K) xN) h 1 12 0 [(0, .ref a0), (1, .int i_1), (2, .float w_2), (3, .int i_3)] []
  unfold f_J18_init at hf
  refine v_qload_n (r := (some a0)) (i := 0) dJ18_init_0 rfl rfl ?_
  refine V.addK0 ?_
  refine V.addN0 ?_
  refine v_callI (mc := 0) (ms := 0) 0 dJ18_init_1 (m_J17_init hG hf) rfl (lw_meth q788) rfl q112 q786 q787 rfl rfl (by decide +kernel) (by decide) rfl (cat_len (Nat.le_of_ble_eq_true rfl)) (kk_V fun h1 hg => ?_) (fun _ _ _ hx => hx.elim)
  replace hf := hg
  clear hg
  refine v_qload_n (r := (some a0)) (i := 0) dJ18_init_4 rfl rfl ?_
  refine v_new (N := 12) (fs := [.null, .null, .int 0, .int 0, .int 0, .float 0, .null, .null, .null, .null, .int 0, .int 0]) (ci := 17) dJ18_init_5 q790 q791 q117 rfl in_J22 tyJ22 tyJ22_ok rfl (fun a2 ha2 => ?_)
  replace hf := hf a2 ha2
  obtain ⟨h3, eh3⟩ : ∃ z, z = hs h1 a2 (true, .inr (17, [.null, .null, .int 0, .int 0, .int 0, .float 0, .null, .null, .null, .null, .int 0, .int 0])) := ⟨_, rfl⟩
  try rw [← eh3] at hf
  rw [← eh3]
  refine v_dup dJ18_init_8 rfl ?_
  refine v_iload_n (i := 1) dJ18_init_9 rfl rfl ?_
  refine v_fload_n (i := 2) dJ18_init_10 rfl rfl ?_
  refine V.addK0 ?_
  refine V.addN0 ?_
  refine v_callI (mc := 0) (ms := 0) 2 dJ18_init_11 (m_J22_init hG hf) rfl (lw_meth q794) rfl q117 q792 q793 rfl rfl (by decide +kernel) (by decide) rfl (cat_len (Nat.le_of_ble_eq_true rfl)) (kk_V fun h4 hg => ?_) (fun _ _ _ hx => hx.elim)
  replace hf := hg
  clear hg
  replace hf := pF_e hf
  obtain ⟨fs5, hh6, hf⟩ := hf
  refine v_putf (v := .ref a2) (T := TJ19) (ci := 16) (ty := .object "java/util/HashMap") 0 dJ18_init_14 q862 rfl in_J19 tyJ19 tyJ19_ok nmJ19 (Nat.le_of_ble_eq_true rfl) (Or.inl rfl) rfl (by decide +kernel) rfl rfl hh6 ?_
  obtain ⟨h7, eh7⟩ : ∃ z, z = hs h4 a0 (true, .inr (16, fs5.set 0 (.ref a2))) := ⟨_, rfl⟩
  try rw [← eh7] at hf
  rw [← eh7]
  exact v_vret dJ18_init_17 rfl ⟨rfl, hf⟩
abbrev Y_J19_init : Yt := (yJ19_init, none, 6, 149, [])
def f_J19_init (G : Gt) (h : Hp) (t_0 : Option Nat) (K : Hp → Prop) : Prop :=
f_J18_init G h t_0 (16 : Int32) (1061158912 : UInt32) (1 : Int32) (fun h1 =>
K h1)
theorem m_J19_init {G : Gt} {h : Hp} {a0 : Nat} {K : Hp → Prop} (hG : Base G) (hf : f_J19_init G h (some a0) K) : MM G Y_J19_init cJ19_init 1 1 12 [.ref a0] h (kV K) xN := by
  refine mm_of hG (by decide +kernel) rfl (ac_c rfl ac_nil) (Nat.le_of_ble_eq_true rfl) (fun E _ _ => ?_)
  show V G E Y_J19_init cJ19_init 1 (QM G E (kV K) xN) h 1 12 0 [(0, .ref a0)] []
  unfold f_J19_init at hf
  refine v_qload_n (r := (some a0)) (i := 0) dJ19_init_0 rfl rfl ?_
  refine v_bipush (v := 16) dJ19_init_1 (by decide) ?_
  refine v_ldcf dJ19_init_3 q782 ?_
  refine v_iconst (v := 1) dJ19_init_5 (by decide) ?_
  refine v_callI (mc := 1) (ms := 12) 3 dJ19_init_6 (m_J18_init hG hf) rfl (lw_meth q785) rfl q113 q783 q784 rfl rfl (by decide +kernel) (by decide) rfl (cat_len (Nat.le_of_ble_eq_true rfl)) (kk_V fun h1 hg => ?_) (fun _ _ _ hx => hx.elim)
  replace hf := hg
  clear hg
  exact v_vret dJ19_init_9 rfl ⟨rfl, hf⟩
abbrev Y_J18_add : Yt := (yJ18_add, some (.boolean), 6, 167, [])
def f_J18_add (G : Gt) (h : Hp) (k n : Nat) (t_0 : Option Nat) (r_1 : Option Nat) (K : Int32 → Hp → Prop) : Prop :=
gR h t_0 16 0 fun r1 =>
gS (g_r G 2) fun r6 =>
rv h r1 17 (dR G Y_J21_put cJ21_put 3 [va_rf r1, va_rf r_1, va_rf r6] h k n (fun r12 h11 k15 n16 =>
((r12 = none → K (1 : Int32) h11) ∧
(∀ y17, r12 = some y17 → K (0 : Int32) h11))) xN)
theorem m_J18_add {G : Gt} {h : Hp} {mc ms : Nat} {a0 : Nat} {r_1 : Option Nat} {K : Int32 → Hp → Prop} (hG : Base G) (hA : 0 ≤ mc) (hB : 0 ≤ ms) (hf : f_J18_add G h (mc - 0) (ms - 0) (some a0) r_1 K) : MM G Y_J18_add cJ18_add 2 mc ms [.ref a0, va_rf r_1] h (kI K) xN := by
  refine mm_of hG (by decide +kernel) rfl (ac_c rfl (ac_c (rf_cat _) ac_nil)) (Nat.le_of_ble_eq_true rfl) (fun E _ _ => ?_)
  obtain ⟨k, hk9⟩ : ∃ z, z = mc - 0 := ⟨_, rfl⟩
  obtain ⟨n, hn9⟩ : ∃ z, z = ms - 0 := ⟨_, rfl⟩
  rw [← hk9, ← hn9] at hf
  refine V.weak (k' := k + 0) (n' := n + 0) ?_ (by omega) (by omega)
  show V G E Y_J18_add cJ18_add 2 (QM G E (kI K) xN) h (k + 0) (n + 0) 0 [(0, .ref a0), (1, va_rf r_1)] []
  unfold f_J18_add at hf
  refine v_qload_n (r := (some a0)) (i := 0) dJ18_add_0 rfl rfl ?_
  replace hf := gR_e hf
  obtain ⟨w2, fs3, r1, hh4, hk5, hf⟩ := hf
  refine v_getf (T := TJ19) (ci := 16) 0 dJ18_add_1 q862 rfl in_J19 (Nat.le_of_ble_eq_true rfl) (Or.inl rfl) hh4 hk5 ?_
  refine v_qload_n (r := r_1) (i := 1) dJ18_add_4 rfl rfl ?_
  refine v_gets dJ18_add_5 q970 (List.mem_of_getElem? (i := 3) rfl) (Or.inl rfl) ?_
  replace hf := gS_e hf
  obtain ⟨r6, er6, hf⟩ := hf
  rw [← er6]
  obtain ⟨a7, rfl⟩ := rv_s hf
  replace hf := rv_e hf
  obtain ⟨w8, fs9, hh10, hf⟩ := hf
  obtain ⟨mc13, ms14, hkmc13, hnms14, hM⟩ := hf
  refine V.weak (k' := ((k - mc13) + 0) + mc13) (n' := ((n - ms14) + 0) + ms14) ?_ (by omega) (by omega)
  refine v_callU 2 dJ18_add_8 hM rfl hh10 rfl (lw_U q972 q974 q975 q973 q116 q976) rfl rfl (by decide +kernel) (by decide) rfl (cat_len (Nat.le_of_ble_eq_true rfl)) (kk_R fun r12 h11 hg => ?_) (fun _ _ _ hx => hx.elim)
  have hf := hg
  clear hg
  refine v_ifnonnull 18 dJ18_add_11 (by decide) (fun y17 e18 => ?_) (fun e18 => ?_)
  · replace hf := hf.2 y17 e18
    subst e18
    refine v_iconst (v := 0) dJ18_add_18 (by decide) ?_
    exact v_zret dJ18_add_19 rfl (by decide) ⟨_, rfl, hf⟩
  · replace hf := hf.1 e18
    subst e18
    refine v_iconst (v := 1) dJ18_add_14 (by decide) ?_
    refine v_goto 19 dJ18_add_15 (by decide) ?_
    exact v_zret dJ18_add_19 rfl (by decide) ⟨_, rfl, hf⟩
abbrev Y_J18_contains : Yt := (yJ18_contains, some (.boolean), 5, 129, [])
def f_J18_contains (G : Gt) (h : Hp) (k n : Nat) (t_0 : Option Nat) (r_1 : Option Nat) (K : Int32 → Hp → Prop) : Prop :=
gR h t_0 16 0 fun r1 =>
rv h r1 17 (dI G Y_J21_containsKey cJ21_containsKey 2 [va_rf r1, va_rf r_1] h k n (fun i11 h10 k14 n15 =>
(narrow .boolean (.int i11) = .int i11 ∧ K i11 h10)) xN)
theorem m_J18_contains {G : Gt} {h : Hp} {mc ms : Nat} {a0 : Nat} {r_1 : Option Nat} {K : Int32 → Hp → Prop} (hG : Base G) (hA : 0 ≤ mc) (hB : 0 ≤ ms) (hf : f_J18_contains G h (mc - 0) (ms - 0) (some a0) r_1 K) : MM G Y_J18_contains cJ18_contains 2 mc ms [.ref a0, va_rf r_1] h (kI K) xN := by
  refine mm_of hG (by decide +kernel) rfl (ac_c rfl (ac_c (rf_cat _) ac_nil)) (Nat.le_of_ble_eq_true rfl) (fun E _ _ => ?_)
  obtain ⟨k, hk9⟩ : ∃ z, z = mc - 0 := ⟨_, rfl⟩
  obtain ⟨n, hn9⟩ : ∃ z, z = ms - 0 := ⟨_, rfl⟩
  rw [← hk9, ← hn9] at hf
  refine V.weak (k' := k + 0) (n' := n + 0) ?_ (by omega) (by omega)
  show V G E Y_J18_contains cJ18_contains 2 (QM G E (kI K) xN) h (k + 0) (n + 0) 0 [(0, .ref a0), (1, va_rf r_1)] []
  unfold f_J18_contains at hf
  refine v_qload_n (r := (some a0)) (i := 0) dJ18_contains_0 rfl rfl ?_
  replace hf := gR_e hf
  obtain ⟨w2, fs3, r1, hh4, hk5, hf⟩ := hf
  refine v_getf (T := TJ19) (ci := 16) 0 dJ18_contains_1 q862 rfl in_J19 (Nat.le_of_ble_eq_true rfl) (Or.inl rfl) hh4 hk5 ?_
  refine v_qload_n (r := r_1) (i := 1) dJ18_contains_4 rfl rfl ?_
  obtain ⟨a6, rfl⟩ := rv_s hf
  replace hf := rv_e hf
  obtain ⟨w7, fs8, hh9, hf⟩ := hf
  obtain ⟨mc12, ms13, hkmc12, hnms13, hM⟩ := hf
  refine V.weak (k' := ((k - mc12) + 0) + mc12) (n' := ((n - ms13) + 0) + ms13) ?_ (by omega) (by omega)
  refine v_callU 1 dJ18_contains_5 hM rfl hh9 rfl (lw_U q1528 q1530 q1531 q1529 q116 q1532) rfl rfl (by decide +kernel) (by decide) rfl (cat_len (Nat.le_of_ble_eq_true rfl)) (kk_I fun i11 h10 hg => ?_) (fun _ _ _ hx => hx.elim)
  have hf := hg
  clear hg
  exact v_zret dJ18_contains_8 rfl hf.1 ⟨_, rfl, hf.2⟩
abbrev Y_J16_wordIndex : Yt := (yJ16_wordIndex, some (.int), 1, 40, [])
def f_J16_wordIndex (G : Gt) (h : Hp) (i_0 : Int32) (K : Int32 → Hp → Prop) : Prop :=
K (i_0 >>> ((6 : Int32) &&& 31)) h
theorem m_J16_wordIndex {G : Gt} {h : Hp} {i_0 : Int32} {K : Int32 → Hp → Prop} (hG : Base G) (hf : f_J16_wordIndex G h i_0 K) : MM G Y_J16_wordIndex cJ16_wordIndex 1 0 0 [.int i_0] h (kI K) xN := by
  refine mm_of hG (by decide +kernel) rfl (ac_c rfl ac_nil) (Nat.le_of_ble_eq_true rfl) (fun E _ _ => ?_)
  show V G E Y_J16_wordIndex cJ16_wordIndex 1 (QM G E (kI K) xN) h 0 0 0 [(0, .int i_0)] []
  unfold f_J16_wordIndex at hf
  refine v_iload_n (i := 0) dJ16_wordIndex_0 rfl rfl ?_
  refine v_bipush (v := 6) dJ16_wordIndex_1 (by decide) ?_
  refine v_ishr dJ16_wordIndex_3 ?_
  exact v_iret dJ16_wordIndex_4 rfl ⟨_, rfl, hf⟩
abbrev Y_J16_ensureCapacity : Yt := (yJ16_ensureCapacity, none, 2, 61, [])
def f_J16_ensureCapacity (G : Gt) (h : Hp) (t_0 : Option Nat) (i_1 : Int32) (K : Hp → Prop) : Prop :=
gR h t_0 15 0 fun r1 =>
aL h r1 fun i11 =>
((i_1 ≤ i11 → K h) ∧
(¬ (i_1 ≤ i11) → gR h t_0 15 0 fun r13 =>
aL h r13 fun i23 =>
f_J10_max G h ((2 : Int32) * i23) i_1 (fun i25 h24 =>
gR h24 t_0 15 0 fun r26 =>
False)))
theorem m_J16_ensureCapacity {G : Gt} {h : Hp} {a0 : Nat} {i_1 : Int32} {K : Hp → Prop} (hG : Base G) (hf : f_J16_ensureCapacity G h (some a0) i_1 K) : MM G Y_J16_ensureCapacity cJ16_ensureCapacity 3 0 0 [.ref a0, .int i_1] h (kV K) xN := by
  refine mm_of hG (by decide +kernel) rfl (ac_c rfl (ac_c rfl ac_nil)) (Nat.le_of_ble_eq_true rfl) (fun E _ _ => ?_)
  show V G E Y_J16_ensureCapacity cJ16_ensureCapacity 3 (QM G E (kV K) xN) h 0 0 0 [(0, .ref a0), (1, .int i_1)] []
  unfold f_J16_ensureCapacity at hf
  refine v_qload_n (r := (some a0)) (i := 0) dJ16_ensureCapacity_0 rfl rfl ?_
  replace hf := gR_e hf
  obtain ⟨w2, fs3, r1, hh4, hk5, hf⟩ := hf
  refine v_getf (T := TJ16) (ci := 15) 0 dJ16_ensureCapacity_1 q762 rfl in_J16 (Nat.le_of_ble_eq_true rfl) (Or.inl rfl) hh4 hk5 ?_
  obtain ⟨a6, rfl⟩ := aL_s hf
  replace hf := aL_e hf
  obtain ⟨w7, t8, x9, hh10, i11, ei11, hf⟩ := hf
  refine v_alen dJ16_ensureCapacity_4 hh10 ei11.symm ?_
  refine v_iload_n (i := 1) dJ16_ensureCapacity_5 rfl rfl ?_
  refine v_icmp_ge 38 dJ16_ensureCapacity_6 (by decide) (fun c12 => ?_) (fun c12 => ?_)
  · replace hf := hf.1 c12
    exact v_vret dJ16_ensureCapacity_38 rfl ⟨rfl, hf⟩
  · replace hf := hf.2 c12
    refine v_iconst (v := 2) dJ16_ensureCapacity_9 (by decide) ?_
    refine v_qload_n (r := (some a0)) (i := 0) dJ16_ensureCapacity_10 rfl rfl ?_
    replace hf := gR_e hf
    obtain ⟨w14, fs15, r13, hh16, hk17, hf⟩ := hf
    refine v_getf (T := TJ16) (ci := 15) 0 dJ16_ensureCapacity_11 q762 rfl in_J16 (Nat.le_of_ble_eq_true rfl) (Or.inl rfl) hh16 hk17 ?_
    obtain ⟨a18, rfl⟩ := aL_s hf
    replace hf := aL_e hf
    obtain ⟨w19, t20, x21, hh22, i23, ei23, hf⟩ := hf
    refine v_alen dJ16_ensureCapacity_14 hh22 ei23.symm ?_
    refine v_imul dJ16_ensureCapacity_15 ?_
    refine v_iload_n (i := 1) dJ16_ensureCapacity_16 rfl rfl ?_
    refine V.addK0 ?_
    refine V.addN0 ?_
    refine v_callS (mc := 0) (ms := 0) 2 dJ16_ensureCapacity_17 (m_J10_max hG hf) rfl (lw_S q1554 q444 q102 q445) rfl (by decide +kernel) (by decide) rfl (cat_len (Nat.le_of_ble_eq_true rfl)) (kk_I fun i25 h24 hg => ?_) (fun _ _ _ hx => hx.elim)
    replace hf := hg
    clear hg
    refine v_istore_n (i := 2) (lv' := [(0, va_rf (some a0)), (1, .int i_1), (2, .int i25)]) dJ16_ensureCapacity_20 rfl (Nat.le_of_ble_eq_true rfl) rfl rfl ?_
    refine v_qload_n (r := (some a0)) (i := 0) dJ16_ensureCapacity_21 rfl rfl ?_
    refine v_qload_n (r := (some a0)) (i := 0) dJ16_ensureCapacity_22 rfl rfl ?_
    replace hf := gR_e hf
    obtain ⟨w27, fs28, r26, hh29, hk30, hf⟩ := hf
    refine v_getf (T := TJ16) (ci := 15) 0 dJ16_ensureCapacity_23 q762 rfl in_J16 (Nat.le_of_ble_eq_true rfl) (Or.inl rfl) hh29 hk30 ?_
    refine v_iload_n (i := 2) dJ16_ensureCapacity_26 rfl rfl ?_
    exact hf.elim
abbrev Y_J16_expandTo : Yt := (yJ16_expandTo, none, 3, 83, [])
def f_J16_expandTo (G : Gt) (h : Hp) (t_0 : Option Nat) (i_1 : Int32) (K : Hp → Prop) : Prop :=
gI h t_0 15 1 fun i1 =>
((i_1 + (1 : Int32) ≤ i1 → K h) ∧
(¬ (i_1 + (1 : Int32) ≤ i1) → rv h t_0 15 (f_J16_ensureCapacity G h t_0 (i_1 + (1 : Int32)) (fun h10 =>
pF h10 t_0 15 1 (.int (i_1 + (1 : Int32))) fun h13 =>
K h13))))
theorem m_J16_expandTo {G : Gt} {h : Hp} {a0 : Nat} {i_1 : Int32} {K : Hp → Prop} (hG : Base G) (hf : f_J16_expandTo G h (some a0) i_1 K) : MM G Y_J16_expandTo cJ16_expandTo 3 0 0 [.ref a0, .int i_1] h (kV K) xN := by
  refine mm_of hG (by decide +kernel) rfl (ac_c rfl (ac_c rfl ac_nil)) (Nat.le_of_ble_eq_true rfl) (fun E _ _ => ?_)
  show V G E Y_J16_expandTo cJ16_expandTo 3 (QM G E (kV K) xN) h 0 0 0 [(0, .ref a0), (1, .int i_1)] []
  unfold f_J16_expandTo at hf
  refine v_iload_n (i := 1) dJ16_expandTo_0 rfl rfl ?_
  refine v_iconst (v := 1) dJ16_expandTo_1 (by decide) ?_
  refine v_iadd dJ16_expandTo_2 ?_
  refine v_istore_n (i := 2) (lv' := [(0, va_rf (some a0)), (1, .int i_1), (2, .int (i_1 + (1 : Int32)))]) dJ16_expandTo_3 rfl (Nat.le_of_ble_eq_true rfl) rfl rfl ?_
  refine v_qload_n (r := (some a0)) (i := 0) dJ16_expandTo_4 rfl rfl ?_
  replace hf := gI_e hf
  obtain ⟨w2, fs3, i1, hh4, hk5, hf⟩ := hf
  refine v_getf (T := TJ16) (ci := 15) 1 dJ16_expandTo_5 q763 rfl in_J16 (Nat.le_of_ble_eq_true rfl) (Or.inl rfl) hh4 hk5 ?_
  refine v_iload_n (i := 2) dJ16_expandTo_8 rfl rfl ?_
  refine v_icmp_ge 22 dJ16_expandTo_9 (by decide) (fun c6 => ?_) (fun c6 => ?_)
  · replace hf := hf.1 c6
    exact v_vret dJ16_expandTo_22 rfl ⟨rfl, hf⟩
  · replace hf := hf.2 c6
    refine v_qload_n (r := (some a0)) (i := 0) dJ16_expandTo_12 rfl rfl ?_
    refine v_iload_n (i := 2) dJ16_expandTo_13 rfl rfl ?_
    replace hf := rv_e hf
    obtain ⟨w7, fs8, hh9, hf⟩ := hf
    refine V.addK0 ?_
    refine V.addN0 ?_
    refine v_callV (mc := 0) (ms := 0) 1 dJ16_expandTo_14 (m_J16_ensureCapacity hG hf) rfl hh9 rfl (lw_V q1550 q1552 qs15 q111 q1553) rfl (by decide +kernel) (by decide) rfl (cat_len (Nat.le_of_ble_eq_true rfl)) (kk_V fun h10 hg => ?_) (fun _ _ _ hx => hx.elim)
    replace hf := hg
    clear hg
    refine v_qload_n (r := (some a0)) (i := 0) dJ16_expandTo_17 rfl rfl ?_
    refine v_iload_n (i := 2) dJ16_expandTo_18 rfl rfl ?_
    replace hf := pF_e hf
    obtain ⟨fs11, hh12, hf⟩ := hf
    refine v_putf (v := .int (i_1 + (1 : Int32))) (T := TJ16) (ci := 15) (ty := .int) 1 dJ16_expandTo_19 q763 rfl in_J16 tyJ16 tyJ16_ok nmJ16 (Nat.le_of_ble_eq_true rfl) (Or.inl rfl) rfl (by decide +kernel) rfl rfl hh12 ?_
    obtain ⟨h13, eh13⟩ : ∃ z, z = hs h10 a0 (true, .inr (15, fs11.set 1 (.int (i_1 + (1 : Int32))))) := ⟨_, rfl⟩
    try rw [← eh13] at hf
    rw [← eh13]
    exact v_vret dJ16_expandTo_22 rfl ⟨rfl, hf⟩
abbrev Y_J16_checkInvariants : Yt := (yJ16_checkInvariants, none, 1, 40, [])
def f_J16_checkInvariants (G : Gt) (h : Hp) (t_0 : Option Nat) (K : Hp → Prop) : Prop :=
((¬ ((1 : Int32) = 0) → ((¬ ((1 : Int32) = 0) → ((¬ ((1 : Int32) = 0) → K h) ∧
((1 : Int32) = 0 → gI h t_0 15 1 fun i4 =>
gR h t_0 15 0 fun r9 =>
aL h r9 fun i19 =>
((i4 = i19 → K h) ∧
(¬ (i4 = i19) → gR h t_0 15 0 fun r21 =>
gI h t_0 15 1 fun i26 =>
aJ h r21 2 i26 fun l37 =>
((lg_cmp l37 (0 : Int64) = 0 → K h) ∧
(¬ (lg_cmp l37 (0 : Int64) = 0) → False))))))) ∧
((1 : Int32) = 0 → gI h t_0 15 1 fun i39 =>
((i39 < 0 → False) ∧
(¬ (i39 < 0) → gI h t_0 15 1 fun i45 =>
gR h t_0 15 0 fun r50 =>
aL h r50 fun i60 =>
((i45 ≤ i60 → ((¬ ((1 : Int32) = 0) → K h) ∧
((1 : Int32) = 0 → gI h t_0 15 1 fun i63 =>
gR h t_0 15 0 fun r68 =>
aL h r68 fun i78 =>
((i63 = i78 → K h) ∧
(¬ (i63 = i78) → gR h t_0 15 0 fun r80 =>
gI h t_0 15 1 fun i85 =>
aJ h r80 2 i85 fun l96 =>
((lg_cmp l96 (0 : Int64) = 0 → K h) ∧
(¬ (lg_cmp l96 (0 : Int64) = 0) → False))))))) ∧
(¬ (i45 ≤ i60) → False))))))) ∧
((1 : Int32) = 0 → gI h t_0 15 1 fun i98 =>
((i98 = 0 → ((¬ ((1 : Int32) = 0) → ((¬ ((1 : Int32) = 0) → K h) ∧
((1 : Int32) = 0 → gI h t_0 15 1 fun i106 =>
gR h t_0 15 0 fun r111 =>
aL h r111 fun i121 =>
((i106 = i121 → K h) ∧
(¬ (i106 = i121) → gR h t_0 15 0 fun r123 =>
gI h t_0 15 1 fun i128 =>
aJ h r123 2 i128 fun l139 =>
((lg_cmp l139 (0 : Int64) = 0 → K h) ∧
(¬ (lg_cmp l139 (0 : Int64) = 0) → False))))))) ∧
((1 : Int32) = 0 → gI h t_0 15 1 fun i141 =>
((i141 < 0 → False) ∧
(¬ (i141 < 0) → gI h t_0 15 1 fun i147 =>
gR h t_0 15 0 fun r152 =>
aL h r152 fun i162 =>
((i147 ≤ i162 → ((¬ ((1 : Int32) = 0) → K h) ∧
((1 : Int32) = 0 → gI h t_0 15 1 fun i165 =>
gR h t_0 15 0 fun r170 =>
aL h r170 fun i180 =>
((i165 = i180 → K h) ∧
(¬ (i165 = i180) → gR h t_0 15 0 fun r182 =>
gI h t_0 15 1 fun i187 =>
aJ h r182 2 i187 fun l198 =>
((lg_cmp l198 (0 : Int64) = 0 → K h) ∧
(¬ (lg_cmp l198 (0 : Int64) = 0) → False))))))) ∧
(¬ (i147 ≤ i162) → False))))))) ∧
(¬ (i98 = 0) → gR h t_0 15 0 fun r200 =>
gI h t_0 15 1 fun i205 =>
aJ h r200 2 (i205 - (1 : Int32)) fun l216 =>
((¬ (lg_cmp l216 (0 : Int64) = 0) → ((¬ ((1 : Int32) = 0) → ((¬ ((1 : Int32) = 0) → K h) ∧
((1 : Int32) = 0 → gI h t_0 15 1 fun i220 =>
gR h t_0 15 0 fun r225 =>
aL h r225 fun i235 =>
((i220 = i235 → K h) ∧
(¬ (i220 = i235) → gR h t_0 15 0 fun r237 =>
gI h t_0 15 1 fun i242 =>
aJ h r237 2 i242 fun l253 =>
((lg_cmp l253 (0 : Int64) = 0 → K h) ∧
(¬ (lg_cmp l253 (0 : Int64) = 0) → False))))))) ∧
((1 : Int32) = 0 → gI h t_0 15 1 fun i255 =>
((i255 < 0 → False) ∧
(¬ (i255 < 0) → gI h t_0 15 1 fun i261 =>
gR h t_0 15 0 fun r266 =>
aL h r266 fun i276 =>
((i261 ≤ i276 → ((¬ ((1 : Int32) = 0) → K h) ∧
((1 : Int32) = 0 → gI h t_0 15 1 fun i279 =>
gR h t_0 15 0 fun r284 =>
aL h r284 fun i294 =>
((i279 = i294 → K h) ∧
(¬ (i279 = i294) → gR h t_0 15 0 fun r296 =>
gI h t_0 15 1 fun i301 =>
aJ h r296 2 i301 fun l312 =>
((lg_cmp l312 (0 : Int64) = 0 → K h) ∧
(¬ (lg_cmp l312 (0 : Int64) = 0) → False))))))) ∧
(¬ (i261 ≤ i276) → False))))))) ∧
(lg_cmp l216 (0 : Int64) = 0 → False))))))
theorem m_J16_checkInvariants {G : Gt} {h : Hp} {a0 : Nat} {K : Hp → Prop} (hG : Base G) (hf : f_J16_checkInvariants G h (some a0) K) : MM G Y_J16_checkInvariants cJ16_checkInvariants 1 0 0 [.ref a0] h (kV K) xN := by
  refine mm_of hG (by decide +kernel) rfl (ac_c rfl ac_nil) (Nat.le_of_ble_eq_true rfl) (fun E _ _ => ?_)
  show V G E Y_J16_checkInvariants cJ16_checkInvariants 1 (QM G E (kV K) xN) h 0 0 0 [(0, .ref a0)] []
  unfold f_J16_checkInvariants at hf
  refine v_gets dJ16_checkInvariants_0 q1569 (List.mem_of_getElem? (i := 6) rfl) (Or.inl rfl) ?_
  refine v_if_ne 37 dJ16_checkInvariants_3 (by decide) (fun c1 => ?_) (fun c1 => ?_)
  · replace hf := hf.1 c1
    refine v_gets dJ16_checkInvariants_37 q1569 (List.mem_of_getElem? (i := 6) rfl) (Or.inl rfl) ?_
    refine v_if_ne 70 dJ16_checkInvariants_40 (by decide) (fun c2 => ?_) (fun c2 => ?_)
    · replace hf := hf.1 c2
      refine v_gets dJ16_checkInvariants_70 q1569 (List.mem_of_getElem? (i := 6) rfl) (Or.inl rfl) ?_
      refine v_if_ne 110 dJ16_checkInvariants_73 (by decide) (fun c3 => ?_) (fun c3 => ?_)
      · replace hf := hf.1 c3
        exact v_vret dJ16_checkInvariants_110 rfl ⟨rfl, hf⟩
      · replace hf := hf.2 c3
        refine v_qload_n (r := (some a0)) (i := 0) dJ16_checkInvariants_76 rfl rfl ?_
        replace hf := gI_e hf
        obtain ⟨w5, fs6, i4, hh7, hk8, hf⟩ := hf
        refine v_getf (T := TJ16) (ci := 15) 1 dJ16_checkInvariants_77 q763 rfl in_J16 (Nat.le_of_ble_eq_true rfl) (Or.inl rfl) hh7 hk8 ?_
        refine v_qload_n (r := (some a0)) (i := 0) dJ16_checkInvariants_80 rfl rfl ?_
        replace hf := gR_e hf
        obtain ⟨w10, fs11, r9, hh12, hk13, hf⟩ := hf
        refine v_getf (T := TJ16) (ci := 15) 0 dJ16_checkInvariants_81 q762 rfl in_J16 (Nat.le_of_ble_eq_true rfl) (Or.inl rfl) hh12 hk13 ?_
        obtain ⟨a14, rfl⟩ := aL_s hf
        replace hf := aL_e hf
        obtain ⟨w15, t16, x17, hh18, i19, ei19, hf⟩ := hf
        refine v_alen dJ16_checkInvariants_84 hh18 ei19.symm ?_
        refine v_icmp_eq 110 dJ16_checkInvariants_85 (by decide) (fun c20 => ?_) (fun c20 => ?_)
        · replace hf := hf.1 c20
          exact v_vret dJ16_checkInvariants_110 rfl ⟨rfl, hf⟩
        · replace hf := hf.2 c20
          refine v_qload_n (r := (some a0)) (i := 0) dJ16_checkInvariants_88 rfl rfl ?_
          replace hf := gR_e hf
          obtain ⟨w22, fs23, r21, hh24, hk25, hf⟩ := hf
          refine v_getf (T := TJ16) (ci := 15) 0 dJ16_checkInvariants_89 q762 rfl in_J16 (Nat.le_of_ble_eq_true rfl) (Or.inl rfl) hh24 hk25 ?_
          refine v_qload_n (r := (some a0)) (i := 0) dJ16_checkInvariants_92 rfl rfl ?_
          replace hf := gI_e hf
          obtain ⟨w27, fs28, i26, hh29, hk30, hf⟩ := hf
          refine v_getf (T := TJ16) (ci := 15) 1 dJ16_checkInvariants_93 q763 rfl in_J16 (Nat.le_of_ble_eq_true rfl) (Or.inl rfl) hh29 hk30 ?_
          obtain ⟨a31, rfl⟩ := aJ_s hf
          replace hf := aJ_e hf
          obtain ⟨w32, N33, f34, hh35, hi36, l37, el37, hf⟩ := hf
          refine v_lald dJ16_checkInvariants_96 hh35 hi36 ?_
          rw [← el37]
          refine v_lconst (v := 0) dJ16_checkInvariants_97 (by decide) ?_
          refine v_lcmp dJ16_checkInvariants_98 ?_
          refine v_if_eq 110 dJ16_checkInvariants_99 (by decide) (fun c38 => ?_) (fun c38 => ?_)
          · replace hf := hf.1 c38
            exact v_vret dJ16_checkInvariants_110 rfl ⟨rfl, hf⟩
          · replace hf := hf.2 c38
            exact hf.elim
    · replace hf := hf.2 c2
      refine v_qload_n (r := (some a0)) (i := 0) dJ16_checkInvariants_43 rfl rfl ?_
      replace hf := gI_e hf
      obtain ⟨w40, fs41, i39, hh42, hk43, hf⟩ := hf
      refine v_getf (T := TJ16) (ci := 15) 1 dJ16_checkInvariants_44 q763 rfl in_J16 (Nat.le_of_ble_eq_true rfl) (Or.inl rfl) hh42 hk43 ?_
      refine v_if_lt 62 dJ16_checkInvariants_47 (by decide) (fun c44 => ?_) (fun c44 => ?_)
      · replace hf := hf.1 c44
        exact hf.elim
      · replace hf := hf.2 c44
        refine v_qload_n (r := (some a0)) (i := 0) dJ16_checkInvariants_50 rfl rfl ?_
        replace hf := gI_e hf
        obtain ⟨w46, fs47, i45, hh48, hk49, hf⟩ := hf
        refine v_getf (T := TJ16) (ci := 15) 1 dJ16_checkInvariants_51 q763 rfl in_J16 (Nat.le_of_ble_eq_true rfl) (Or.inl rfl) hh48 hk49 ?_
        refine v_qload_n (r := (some a0)) (i := 0) dJ16_checkInvariants_54 rfl rfl ?_
        replace hf := gR_e hf
        obtain ⟨w51, fs52, r50, hh53, hk54, hf⟩ := hf
        refine v_getf (T := TJ16) (ci := 15) 0 dJ16_checkInvariants_55 q762 rfl in_J16 (Nat.le_of_ble_eq_true rfl) (Or.inl rfl) hh53 hk54 ?_
        obtain ⟨a55, rfl⟩ := aL_s hf
        replace hf := aL_e hf
        obtain ⟨w56, t57, x58, hh59, i60, ei60, hf⟩ := hf
        refine v_alen dJ16_checkInvariants_58 hh59 ei60.symm ?_
        refine v_icmp_le 70 dJ16_checkInvariants_59 (by decide) (fun c61 => ?_) (fun c61 => ?_)
        · replace hf := hf.1 c61
          refine v_gets dJ16_checkInvariants_70 q1569 (List.mem_of_getElem? (i := 6) rfl) (Or.inl rfl) ?_
          refine v_if_ne 110 dJ16_checkInvariants_73 (by decide) (fun c62 => ?_) (fun c62 => ?_)
          · replace hf := hf.1 c62
            exact v_vret dJ16_checkInvariants_110 rfl ⟨rfl, hf⟩
          · replace hf := hf.2 c62
            refine v_qload_n (r := (some a0)) (i := 0) dJ16_checkInvariants_76 rfl rfl ?_
            replace hf := gI_e hf
            obtain ⟨w64, fs65, i63, hh66, hk67, hf⟩ := hf
            refine v_getf (T := TJ16) (ci := 15) 1 dJ16_checkInvariants_77 q763 rfl in_J16 (Nat.le_of_ble_eq_true rfl) (Or.inl rfl) hh66 hk67 ?_
            refine v_qload_n (r := (some a0)) (i := 0) dJ16_checkInvariants_80 rfl rfl ?_
            replace hf := gR_e hf
            obtain ⟨w69, fs70, r68, hh71, hk72, hf⟩ := hf
            refine v_getf (T := TJ16) (ci := 15) 0 dJ16_checkInvariants_81 q762 rfl in_J16 (Nat.le_of_ble_eq_true rfl) (Or.inl rfl) hh71 hk72 ?_
            obtain ⟨a73, rfl⟩ := aL_s hf
            replace hf := aL_e hf
            obtain ⟨w74, t75, x76, hh77, i78, ei78, hf⟩ := hf
            refine v_alen dJ16_checkInvariants_84 hh77 ei78.symm ?_
            refine v_icmp_eq 110 dJ16_checkInvariants_85 (by decide) (fun c79 => ?_) (fun c79 => ?_)
            · replace hf := hf.1 c79
              exact v_vret dJ16_checkInvariants_110 rfl ⟨rfl, hf⟩
            · replace hf := hf.2 c79
              refine v_qload_n (r := (some a0)) (i := 0) dJ16_checkInvariants_88 rfl rfl ?_
              replace hf := gR_e hf
              obtain ⟨w81, fs82, r80, hh83, hk84, hf⟩ := hf
              refine v_getf (T := TJ16) (ci := 15) 0 dJ16_checkInvariants_89 q762 rfl in_J16 (Nat.le_of_ble_eq_true rfl) (Or.inl rfl) hh83 hk84 ?_
              refine v_qload_n (r := (some a0)) (i := 0) dJ16_checkInvariants_92 rfl rfl ?_
              replace hf := gI_e hf
              obtain ⟨w86, fs87, i85, hh88, hk89, hf⟩ := hf
              refine v_getf (T := TJ16) (ci := 15) 1 dJ16_checkInvariants_93 q763 rfl in_J16 (Nat.le_of_ble_eq_true rfl) (Or.inl rfl) hh88 hk89 ?_
              obtain ⟨a90, rfl⟩ := aJ_s hf
              replace hf := aJ_e hf
              obtain ⟨w91, N92, f93, hh94, hi95, l96, el96, hf⟩ := hf
              refine v_lald dJ16_checkInvariants_96 hh94 hi95 ?_
              rw [← el96]
              refine v_lconst (v := 0) dJ16_checkInvariants_97 (by decide) ?_
              refine v_lcmp dJ16_checkInvariants_98 ?_
              refine v_if_eq 110 dJ16_checkInvariants_99 (by decide) (fun c97 => ?_) (fun c97 => ?_)
              · replace hf := hf.1 c97
                exact v_vret dJ16_checkInvariants_110 rfl ⟨rfl, hf⟩
              · replace hf := hf.2 c97
                exact hf.elim
        · replace hf := hf.2 c61
          exact hf.elim
  · replace hf := hf.2 c1
    refine v_qload_n (r := (some a0)) (i := 0) dJ16_checkInvariants_6 rfl rfl ?_
    replace hf := gI_e hf
    obtain ⟨w99, fs100, i98, hh101, hk102, hf⟩ := hf
    refine v_getf (T := TJ16) (ci := 15) 1 dJ16_checkInvariants_7 q763 rfl in_J16 (Nat.le_of_ble_eq_true rfl) (Or.inl rfl) hh101 hk102 ?_
    refine v_if_eq 37 dJ16_checkInvariants_10 (by decide) (fun c103 => ?_) (fun c103 => ?_)
    · replace hf := hf.1 c103
      refine v_gets dJ16_checkInvariants_37 q1569 (List.mem_of_getElem? (i := 6) rfl) (Or.inl rfl) ?_
      refine v_if_ne 70 dJ16_checkInvariants_40 (by decide) (fun c104 => ?_) (fun c104 => ?_)
      · replace hf := hf.1 c104
        refine v_gets dJ16_checkInvariants_70 q1569 (List.mem_of_getElem? (i := 6) rfl) (Or.inl rfl) ?_
        refine v_if_ne 110 dJ16_checkInvariants_73 (by decide) (fun c105 => ?_) (fun c105 => ?_)
        · replace hf := hf.1 c105
          exact v_vret dJ16_checkInvariants_110 rfl ⟨rfl, hf⟩
        · replace hf := hf.2 c105
          refine v_qload_n (r := (some a0)) (i := 0) dJ16_checkInvariants_76 rfl rfl ?_
          replace hf := gI_e hf
          obtain ⟨w107, fs108, i106, hh109, hk110, hf⟩ := hf
          refine v_getf (T := TJ16) (ci := 15) 1 dJ16_checkInvariants_77 q763 rfl in_J16 (Nat.le_of_ble_eq_true rfl) (Or.inl rfl) hh109 hk110 ?_
          refine v_qload_n (r := (some a0)) (i := 0) dJ16_checkInvariants_80 rfl rfl ?_
          replace hf := gR_e hf
          obtain ⟨w112, fs113, r111, hh114, hk115, hf⟩ := hf
          refine v_getf (T := TJ16) (ci := 15) 0 dJ16_checkInvariants_81 q762 rfl in_J16 (Nat.le_of_ble_eq_true rfl) (Or.inl rfl) hh114 hk115 ?_
          obtain ⟨a116, rfl⟩ := aL_s hf
          replace hf := aL_e hf
          obtain ⟨w117, t118, x119, hh120, i121, ei121, hf⟩ := hf
          refine v_alen dJ16_checkInvariants_84 hh120 ei121.symm ?_
          refine v_icmp_eq 110 dJ16_checkInvariants_85 (by decide) (fun c122 => ?_) (fun c122 => ?_)
          · replace hf := hf.1 c122
            exact v_vret dJ16_checkInvariants_110 rfl ⟨rfl, hf⟩
          · replace hf := hf.2 c122
            refine v_qload_n (r := (some a0)) (i := 0) dJ16_checkInvariants_88 rfl rfl ?_
            replace hf := gR_e hf
            obtain ⟨w124, fs125, r123, hh126, hk127, hf⟩ := hf
            refine v_getf (T := TJ16) (ci := 15) 0 dJ16_checkInvariants_89 q762 rfl in_J16 (Nat.le_of_ble_eq_true rfl) (Or.inl rfl) hh126 hk127 ?_
            refine v_qload_n (r := (some a0)) (i := 0) dJ16_checkInvariants_92 rfl rfl ?_
            replace hf := gI_e hf
            obtain ⟨w129, fs130, i128, hh131, hk132, hf⟩ := hf
            refine v_getf (T := TJ16) (ci := 15) 1 dJ16_checkInvariants_93 q763 rfl in_J16 (Nat.le_of_ble_eq_true rfl) (Or.inl rfl) hh131 hk132 ?_
            obtain ⟨a133, rfl⟩ := aJ_s hf
            replace hf := aJ_e hf
            obtain ⟨w134, N135, f136, hh137, hi138, l139, el139, hf⟩ := hf
            refine v_lald dJ16_checkInvariants_96 hh137 hi138 ?_
            rw [← el139]
            refine v_lconst (v := 0) dJ16_checkInvariants_97 (by decide) ?_
            refine v_lcmp dJ16_checkInvariants_98 ?_
            refine v_if_eq 110 dJ16_checkInvariants_99 (by decide) (fun c140 => ?_) (fun c140 => ?_)
            · replace hf := hf.1 c140
              exact v_vret dJ16_checkInvariants_110 rfl ⟨rfl, hf⟩
            · replace hf := hf.2 c140
              exact hf.elim
      · replace hf := hf.2 c104
        refine v_qload_n (r := (some a0)) (i := 0) dJ16_checkInvariants_43 rfl rfl ?_
        replace hf := gI_e hf
        obtain ⟨w142, fs143, i141, hh144, hk145, hf⟩ := hf
        refine v_getf (T := TJ16) (ci := 15) 1 dJ16_checkInvariants_44 q763 rfl in_J16 (Nat.le_of_ble_eq_true rfl) (Or.inl rfl) hh144 hk145 ?_
        refine v_if_lt 62 dJ16_checkInvariants_47 (by decide) (fun c146 => ?_) (fun c146 => ?_)
        · replace hf := hf.1 c146
          exact hf.elim
        · replace hf := hf.2 c146
          refine v_qload_n (r := (some a0)) (i := 0) dJ16_checkInvariants_50 rfl rfl ?_
          replace hf := gI_e hf
          obtain ⟨w148, fs149, i147, hh150, hk151, hf⟩ := hf
          refine v_getf (T := TJ16) (ci := 15) 1 dJ16_checkInvariants_51 q763 rfl in_J16 (Nat.le_of_ble_eq_true rfl) (Or.inl rfl) hh150 hk151 ?_
          refine v_qload_n (r := (some a0)) (i := 0) dJ16_checkInvariants_54 rfl rfl ?_
          replace hf := gR_e hf
          obtain ⟨w153, fs154, r152, hh155, hk156, hf⟩ := hf
          refine v_getf (T := TJ16) (ci := 15) 0 dJ16_checkInvariants_55 q762 rfl in_J16 (Nat.le_of_ble_eq_true rfl) (Or.inl rfl) hh155 hk156 ?_
          obtain ⟨a157, rfl⟩ := aL_s hf
          replace hf := aL_e hf
          obtain ⟨w158, t159, x160, hh161, i162, ei162, hf⟩ := hf
          refine v_alen dJ16_checkInvariants_58 hh161 ei162.symm ?_
          refine v_icmp_le 70 dJ16_checkInvariants_59 (by decide) (fun c163 => ?_) (fun c163 => ?_)
          · replace hf := hf.1 c163
            refine v_gets dJ16_checkInvariants_70 q1569 (List.mem_of_getElem? (i := 6) rfl) (Or.inl rfl) ?_
            refine v_if_ne 110 dJ16_checkInvariants_73 (by decide) (fun c164 => ?_) (fun c164 => ?_)
            · replace hf := hf.1 c164
              exact v_vret dJ16_checkInvariants_110 rfl ⟨rfl, hf⟩
            · replace hf := hf.2 c164
              refine v_qload_n (r := (some a0)) (i := 0) dJ16_checkInvariants_76 rfl rfl ?_
              replace hf := gI_e hf
              obtain ⟨w166, fs167, i165, hh168, hk169, hf⟩ := hf
              refine v_getf (T := TJ16) (ci := 15) 1 dJ16_checkInvariants_77 q763 rfl in_J16 (Nat.le_of_ble_eq_true rfl) (Or.inl rfl) hh168 hk169 ?_
              refine v_qload_n (r := (some a0)) (i := 0) dJ16_checkInvariants_80 rfl rfl ?_
              replace hf := gR_e hf
              obtain ⟨w171, fs172, r170, hh173, hk174, hf⟩ := hf
              refine v_getf (T := TJ16) (ci := 15) 0 dJ16_checkInvariants_81 q762 rfl in_J16 (Nat.le_of_ble_eq_true rfl) (Or.inl rfl) hh173 hk174 ?_
              obtain ⟨a175, rfl⟩ := aL_s hf
              replace hf := aL_e hf
              obtain ⟨w176, t177, x178, hh179, i180, ei180, hf⟩ := hf
              refine v_alen dJ16_checkInvariants_84 hh179 ei180.symm ?_
              refine v_icmp_eq 110 dJ16_checkInvariants_85 (by decide) (fun c181 => ?_) (fun c181 => ?_)
              · replace hf := hf.1 c181
                exact v_vret dJ16_checkInvariants_110 rfl ⟨rfl, hf⟩
              · replace hf := hf.2 c181
                refine v_qload_n (r := (some a0)) (i := 0) dJ16_checkInvariants_88 rfl rfl ?_
                replace hf := gR_e hf
                obtain ⟨w183, fs184, r182, hh185, hk186, hf⟩ := hf
                refine v_getf (T := TJ16) (ci := 15) 0 dJ16_checkInvariants_89 q762 rfl in_J16 (Nat.le_of_ble_eq_true rfl) (Or.inl rfl) hh185 hk186 ?_
                refine v_qload_n (r := (some a0)) (i := 0) dJ16_checkInvariants_92 rfl rfl ?_
                replace hf := gI_e hf
                obtain ⟨w188, fs189, i187, hh190, hk191, hf⟩ := hf
                refine v_getf (T := TJ16) (ci := 15) 1 dJ16_checkInvariants_93 q763 rfl in_J16 (Nat.le_of_ble_eq_true rfl) (Or.inl rfl) hh190 hk191 ?_
                obtain ⟨a192, rfl⟩ := aJ_s hf
                replace hf := aJ_e hf
                obtain ⟨w193, N194, f195, hh196, hi197, l198, el198, hf⟩ := hf
                refine v_lald dJ16_checkInvariants_96 hh196 hi197 ?_
                rw [← el198]
                refine v_lconst (v := 0) dJ16_checkInvariants_97 (by decide) ?_
                refine v_lcmp dJ16_checkInvariants_98 ?_
                refine v_if_eq 110 dJ16_checkInvariants_99 (by decide) (fun c199 => ?_) (fun c199 => ?_)
                · replace hf := hf.1 c199
                  exact v_vret dJ16_checkInvariants_110 rfl ⟨rfl, hf⟩
                · replace hf := hf.2 c199
                  exact hf.elim
          · replace hf := hf.2 c163
            exact hf.elim
    · replace hf := hf.2 c103
      refine v_qload_n (r := (some a0)) (i := 0) dJ16_checkInvariants_13 rfl rfl ?_
      replace hf := gR_e hf
      obtain ⟨w201, fs202, r200, hh203, hk204, hf⟩ := hf
      refine v_getf (T := TJ16) (ci := 15) 0 dJ16_checkInvariants_14 q762 rfl in_J16 (Nat.le_of_ble_eq_true rfl) (Or.inl rfl) hh203 hk204 ?_
      refine v_qload_n (r := (some a0)) (i := 0) dJ16_checkInvariants_17 rfl rfl ?_
      replace hf := gI_e hf
      obtain ⟨w206, fs207, i205, hh208, hk209, hf⟩ := hf
      refine v_getf (T := TJ16) (ci := 15) 1 dJ16_checkInvariants_18 q763 rfl in_J16 (Nat.le_of_ble_eq_true rfl) (Or.inl rfl) hh208 hk209 ?_
      refine v_iconst (v := 1) dJ16_checkInvariants_21 (by decide) ?_
      refine v_isub dJ16_checkInvariants_22 ?_
      obtain ⟨a210, rfl⟩ := aJ_s hf
      replace hf := aJ_e hf
      obtain ⟨w211, N212, f213, hh214, hi215, l216, el216, hf⟩ := hf
      refine v_lald dJ16_checkInvariants_23 hh214 hi215 ?_
      rw [← el216]
      refine v_lconst (v := 0) dJ16_checkInvariants_24 (by decide) ?_
      refine v_lcmp dJ16_checkInvariants_25 ?_
      refine v_if_ne 37 dJ16_checkInvariants_26 (by decide) (fun c217 => ?_) (fun c217 => ?_)
      · replace hf := hf.1 c217
        refine v_gets dJ16_checkInvariants_37 q1569 (List.mem_of_getElem? (i := 6) rfl) (Or.inl rfl) ?_
        refine v_if_ne 70 dJ16_checkInvariants_40 (by decide) (fun c218 => ?_) (fun c218 => ?_)
        · replace hf := hf.1 c218
          refine v_gets dJ16_checkInvariants_70 q1569 (List.mem_of_getElem? (i := 6) rfl) (Or.inl rfl) ?_
          refine v_if_ne 110 dJ16_checkInvariants_73 (by decide) (fun c219 => ?_) (fun c219 => ?_)
          · replace hf := hf.1 c219
            exact v_vret dJ16_checkInvariants_110 rfl ⟨rfl, hf⟩
          · replace hf := hf.2 c219
            refine v_qload_n (r := (some a0)) (i := 0) dJ16_checkInvariants_76 rfl rfl ?_
            replace hf := gI_e hf
            obtain ⟨w221, fs222, i220, hh223, hk224, hf⟩ := hf
            refine v_getf (T := TJ16) (ci := 15) 1 dJ16_checkInvariants_77 q763 rfl in_J16 (Nat.le_of_ble_eq_true rfl) (Or.inl rfl) hh223 hk224 ?_
            refine v_qload_n (r := (some a0)) (i := 0) dJ16_checkInvariants_80 rfl rfl ?_
            replace hf := gR_e hf
            obtain ⟨w226, fs227, r225, hh228, hk229, hf⟩ := hf
            refine v_getf (T := TJ16) (ci := 15) 0 dJ16_checkInvariants_81 q762 rfl in_J16 (Nat.le_of_ble_eq_true rfl) (Or.inl rfl) hh228 hk229 ?_
            obtain ⟨a230, rfl⟩ := aL_s hf
            replace hf := aL_e hf
            obtain ⟨w231, t232, x233, hh234, i235, ei235, hf⟩ := hf
            refine v_alen dJ16_checkInvariants_84 hh234 ei235.symm ?_
            refine v_icmp_eq 110 dJ16_checkInvariants_85 (by decide) (fun c236 => ?_) (fun c236 => ?_)
            · replace hf := hf.1 c236
              exact v_vret dJ16_checkInvariants_110 rfl ⟨rfl, hf⟩
            · replace hf := hf.2 c236
              refine v_qload_n (r := (some a0)) (i := 0) dJ16_checkInvariants_88 rfl rfl ?_
              replace hf := gR_e hf
              obtain ⟨w238, fs239, r237, hh240, hk241, hf⟩ := hf
              refine v_getf (T := TJ16) (ci := 15) 0 dJ16_checkInvariants_89 q762 rfl in_J16 (Nat.le_of_ble_eq_true rfl) (Or.inl rfl) hh240 hk241 ?_
              refine v_qload_n (r := (some a0)) (i := 0) dJ16_checkInvariants_92 rfl rfl ?_
              replace hf := gI_e hf
              obtain ⟨w243, fs244, i242, hh245, hk246, hf⟩ := hf
              refine v_getf (T := TJ16) (ci := 15) 1 dJ16_checkInvariants_93 q763 rfl in_J16 (Nat.le_of_ble_eq_true rfl) (Or.inl rfl) hh245 hk246 ?_
              obtain ⟨a247, rfl⟩ := aJ_s hf
              replace hf := aJ_e hf
              obtain ⟨w248, N249, f250, hh251, hi252, l253, el253, hf⟩ := hf
              refine v_lald dJ16_checkInvariants_96 hh251 hi252 ?_
              rw [← el253]
              refine v_lconst (v := 0) dJ16_checkInvariants_97 (by decide) ?_
              refine v_lcmp dJ16_checkInvariants_98 ?_
              refine v_if_eq 110 dJ16_checkInvariants_99 (by decide) (fun c254 => ?_) (fun c254 => ?_)
              · replace hf := hf.1 c254
                exact v_vret dJ16_checkInvariants_110 rfl ⟨rfl, hf⟩
              · replace hf := hf.2 c254
                exact hf.elim
        · replace hf := hf.2 c218
          refine v_qload_n (r := (some a0)) (i := 0) dJ16_checkInvariants_43 rfl rfl ?_
          replace hf := gI_e hf
          obtain ⟨w256, fs257, i255, hh258, hk259, hf⟩ := hf
          refine v_getf (T := TJ16) (ci := 15) 1 dJ16_checkInvariants_44 q763 rfl in_J16 (Nat.le_of_ble_eq_true rfl) (Or.inl rfl) hh258 hk259 ?_
          refine v_if_lt 62 dJ16_checkInvariants_47 (by decide) (fun c260 => ?_) (fun c260 => ?_)
          · replace hf := hf.1 c260
            exact hf.elim
          · replace hf := hf.2 c260
            refine v_qload_n (r := (some a0)) (i := 0) dJ16_checkInvariants_50 rfl rfl ?_
            replace hf := gI_e hf
            obtain ⟨w262, fs263, i261, hh264, hk265, hf⟩ := hf
            refine v_getf (T := TJ16) (ci := 15) 1 dJ16_checkInvariants_51 q763 rfl in_J16 (Nat.le_of_ble_eq_true rfl) (Or.inl rfl) hh264 hk265 ?_
            refine v_qload_n (r := (some a0)) (i := 0) dJ16_checkInvariants_54 rfl rfl ?_
            replace hf := gR_e hf
            obtain ⟨w267, fs268, r266, hh269, hk270, hf⟩ := hf
            refine v_getf (T := TJ16) (ci := 15) 0 dJ16_checkInvariants_55 q762 rfl in_J16 (Nat.le_of_ble_eq_true rfl) (Or.inl rfl) hh269 hk270 ?_
            obtain ⟨a271, rfl⟩ := aL_s hf
            replace hf := aL_e hf
            obtain ⟨w272, t273, x274, hh275, i276, ei276, hf⟩ := hf
            refine v_alen dJ16_checkInvariants_58 hh275 ei276.symm ?_
            refine v_icmp_le 70 dJ16_checkInvariants_59 (by decide) (fun c277 => ?_) (fun c277 => ?_)
            · replace hf := hf.1 c277
              refine v_gets dJ16_checkInvariants_70 q1569 (List.mem_of_getElem? (i := 6) rfl) (Or.inl rfl) ?_
              refine v_if_ne 110 dJ16_checkInvariants_73 (by decide) (fun c278 => ?_) (fun c278 => ?_)
              · replace hf := hf.1 c278
                exact v_vret dJ16_checkInvariants_110 rfl ⟨rfl, hf⟩
              · replace hf := hf.2 c278
                refine v_qload_n (r := (some a0)) (i := 0) dJ16_checkInvariants_76 rfl rfl ?_
                replace hf := gI_e hf
                obtain ⟨w280, fs281, i279, hh282, hk283, hf⟩ := hf
                refine v_getf (T := TJ16) (ci := 15) 1 dJ16_checkInvariants_77 q763 rfl in_J16 (Nat.le_of_ble_eq_true rfl) (Or.inl rfl) hh282 hk283 ?_
                refine v_qload_n (r := (some a0)) (i := 0) dJ16_checkInvariants_80 rfl rfl ?_
                replace hf := gR_e hf
                obtain ⟨w285, fs286, r284, hh287, hk288, hf⟩ := hf
                refine v_getf (T := TJ16) (ci := 15) 0 dJ16_checkInvariants_81 q762 rfl in_J16 (Nat.le_of_ble_eq_true rfl) (Or.inl rfl) hh287 hk288 ?_
                obtain ⟨a289, rfl⟩ := aL_s hf
                replace hf := aL_e hf
                obtain ⟨w290, t291, x292, hh293, i294, ei294, hf⟩ := hf
                refine v_alen dJ16_checkInvariants_84 hh293 ei294.symm ?_
                refine v_icmp_eq 110 dJ16_checkInvariants_85 (by decide) (fun c295 => ?_) (fun c295 => ?_)
                · replace hf := hf.1 c295
                  exact v_vret dJ16_checkInvariants_110 rfl ⟨rfl, hf⟩
                · replace hf := hf.2 c295
                  refine v_qload_n (r := (some a0)) (i := 0) dJ16_checkInvariants_88 rfl rfl ?_
                  replace hf := gR_e hf
                  obtain ⟨w297, fs298, r296, hh299, hk300, hf⟩ := hf
                  refine v_getf (T := TJ16) (ci := 15) 0 dJ16_checkInvariants_89 q762 rfl in_J16 (Nat.le_of_ble_eq_true rfl) (Or.inl rfl) hh299 hk300 ?_
                  refine v_qload_n (r := (some a0)) (i := 0) dJ16_checkInvariants_92 rfl rfl ?_
                  replace hf := gI_e hf
                  obtain ⟨w302, fs303, i301, hh304, hk305, hf⟩ := hf
                  refine v_getf (T := TJ16) (ci := 15) 1 dJ16_checkInvariants_93 q763 rfl in_J16 (Nat.le_of_ble_eq_true rfl) (Or.inl rfl) hh304 hk305 ?_
                  obtain ⟨a306, rfl⟩ := aJ_s hf
                  replace hf := aJ_e hf
                  obtain ⟨w307, N308, f309, hh310, hi311, l312, el312, hf⟩ := hf
                  refine v_lald dJ16_checkInvariants_96 hh310 hi311 ?_
                  rw [← el312]
                  refine v_lconst (v := 0) dJ16_checkInvariants_97 (by decide) ?_
                  refine v_lcmp dJ16_checkInvariants_98 ?_
                  refine v_if_eq 110 dJ16_checkInvariants_99 (by decide) (fun c313 => ?_) (fun c313 => ?_)
                  · replace hf := hf.1 c313
                    exact v_vret dJ16_checkInvariants_110 rfl ⟨rfl, hf⟩
                  · replace hf := hf.2 c313
                    exact hf.elim
            · replace hf := hf.2 c277
              exact hf.elim
      · replace hf := hf.2 c217
        exact hf.elim
abbrev Y_J16_set : Yt := (yJ16_set, none, 4, 105, [])
def f_J16_set (G : Gt) (h : Hp) (t_0 : Option Nat) (i_1 : Int32) (K : Hp → Prop) : Prop :=
((0 ≤ i_1 → f_J16_wordIndex G h i_1 (fun i3 h2 =>
rv h2 t_0 15 (f_J16_expandTo G h2 t_0 i3 (fun h7 =>
gR h7 t_0 15 0 fun r8 =>
aJ h7 r8 2 i3 fun l19 =>
sJ h7 r8 i3 (l19 ||| ((1 : Int64) <<< (i_1.toInt64 &&& 63))) fun h24 =>
rv h24 t_0 15 (f_J16_checkInvariants G h24 t_0 (fun h28 =>
K h28)))))) ∧
(¬ (0 ≤ i_1) → False))
theorem m_J16_set {G : Gt} {h : Hp} {a0 : Nat} {i_1 : Int32} {K : Hp → Prop} (hG : Base G) (hf : f_J16_set G h (some a0) i_1 K) : MM G Y_J16_set cJ16_set 3 0 0 [.ref a0, .int i_1] h (kV K) xN := by
  refine mm_of hG (by decide +kernel) rfl (ac_c rfl (ac_c rfl ac_nil)) (Nat.le_of_ble_eq_true rfl) (fun E _ _ => ?_)
  show V G E Y_J16_set cJ16_set 3 (QM G E (kV K) xN) h 0 0 0 [(0, .ref a0), (1, .int i_1)] []
  unfold f_J16_set at hf
  refine v_iload_n (i := 1) dJ16_set_0 rfl rfl ?_
  refine v_if_ge 31 dJ16_set_1 (by decide) (fun c1 => ?_) (fun c1 => ?_)
  · replace hf := hf.1 c1
    refine v_iload_n (i := 1) dJ16_set_31 rfl rfl ?_
    refine V.addK0 ?_
    refine V.addN0 ?_
    refine v_callS (mc := 0) (ms := 0) 1 dJ16_set_32 (m_J16_wordIndex hG hf) rfl (lw_S q759 q760 q111 q761) rfl (by decide +kernel) (by decide) rfl (cat_len (Nat.le_of_ble_eq_true rfl)) (kk_I fun i3 h2 hg => ?_) (fun _ _ _ hx => hx.elim)
    replace hf := hg
    clear hg
    refine v_istore_n (i := 2) (lv' := [(0, va_rf (some a0)), (1, .int i_1), (2, .int i3)]) dJ16_set_35 rfl (Nat.le_of_ble_eq_true rfl) rfl rfl ?_
    refine v_qload_n (r := (some a0)) (i := 0) dJ16_set_36 rfl rfl ?_
    refine v_iload_n (i := 2) dJ16_set_37 rfl rfl ?_
    replace hf := rv_e hf
    obtain ⟨w4, fs5, hh6, hf⟩ := hf
    refine V.addK0 ?_
    refine V.addN0 ?_
    refine v_callV (mc := 0) (ms := 0) 1 dJ16_set_38 (m_J16_expandTo hG hf) rfl hh6 rfl (lw_V q1546 q1548 qs14 q111 q1549) rfl (by decide +kernel) (by decide) rfl (cat_len (Nat.le_of_ble_eq_true rfl)) (kk_V fun h7 hg => ?_) (fun _ _ _ hx => hx.elim)
    replace hf := hg
    clear hg
    refine v_qload_n (r := (some a0)) (i := 0) dJ16_set_41 rfl rfl ?_
    replace hf := gR_e hf
    obtain ⟨w9, fs10, r8, hh11, hk12, hf⟩ := hf
    refine v_getf (T := TJ16) (ci := 15) 0 dJ16_set_42 q762 rfl in_J16 (Nat.le_of_ble_eq_true rfl) (Or.inl rfl) hh11 hk12 ?_
    refine v_iload_n (i := 2) dJ16_set_45 rfl rfl ?_
    refine v_dup2 dJ16_set_46 rfl (rf_cat _) ?_
    obtain ⟨a13, rfl⟩ := aJ_s hf
    replace hf := aJ_e hf
    obtain ⟨w14, N15, f16, hh17, hi18, l19, el19, hf⟩ := hf
    refine v_lald dJ16_set_47 hh17 hi18 ?_
    rw [← el19]
    refine v_lconst (v := 1) dJ16_set_48 (by decide) ?_
    refine v_iload_n (i := 1) dJ16_set_49 rfl rfl ?_
    refine v_lshl (v := (1 : Int64) <<< (i_1.toInt64 &&& 63)) dJ16_set_50 rfl ?_
    refine v_lor dJ16_set_51 ?_
    replace hf := sJ_e hf
    obtain ⟨N20, f21, hh22, hi23, hf⟩ := hf
    refine v_last dJ16_set_52 hh22 hi23 ?_
    obtain ⟨h24, eh24⟩ : ∃ z, z = hs h7 a13 (true, .inl (2, N20, .inr (.inl (vp_updL f21 (i3).toNatClampNeg (l19 ||| ((1 : Int64) <<< (i_1.toInt64 &&& 63))))))) := ⟨_, rfl⟩
    try rw [← eh24] at hf
    rw [← eh24]
    refine v_qload_n (r := (some a0)) (i := 0) dJ16_set_53 rfl rfl ?_
    replace hf := rv_e hf
    obtain ⟨w25, fs26, hh27, hf⟩ := hf
    refine V.addK0 ?_
    refine V.addN0 ?_
    refine v_callV (mc := 0) (ms := 0) 0 dJ16_set_54 (m_J16_checkInvariants hG hf) rfl hh27 rfl (lw_V q1565 q1567 qs16 q111 q1568) rfl (by decide +kernel) (by decide) rfl (cat_len (Nat.le_of_ble_eq_true rfl)) (kk_V fun h28 hg => ?_) (fun _ _ _ hx => hx.elim)
    replace hf := hg
    clear hg
    exact v_vret dJ16_set_57 rfl ⟨rfl, hf⟩
  · replace hf := hf.2 c1
    exact hf.elim
abbrev Y_J16_get : Yt := (yJ16_get, some (.boolean), 2, 60, [])
def f_J16_get (G : Gt) (h : Hp) (t_0 : Option Nat) (i_1 : Int32) (K : Int32 → Hp → Prop) : Prop :=
((0 ≤ i_1 → rv h t_0 15 (f_J16_checkInvariants G h t_0 (fun h5 =>
f_J16_wordIndex G h5 i_1 (fun i7 h6 =>
gI h6 t_0 15 1 fun i8 =>
((i8 ≤ i7 → K (0 : Int32) h6) ∧
(¬ (i8 ≤ i7) → gR h6 t_0 15 0 fun r14 =>
aJ h6 r14 2 i7 fun l25 =>
((lg_cmp (l25 &&& ((1 : Int64) <<< (i_1.toInt64 &&& 63))) (0 : Int64) = 0 → K (0 : Int32) h6) ∧
(¬ (lg_cmp (l25 &&& ((1 : Int64) <<< (i_1.toInt64 &&& 63))) (0 : Int64) = 0) → K (1 : Int32) h6)))))))) ∧
(¬ (0 ≤ i_1) → False))
theorem m_J16_get {G : Gt} {h : Hp} {a0 : Nat} {i_1 : Int32} {K : Int32 → Hp → Prop} (hG : Base G) (hf : f_J16_get G h (some a0) i_1 K) : MM G Y_J16_get cJ16_get 3 0 0 [.ref a0, .int i_1] h (kI K) xN := by
  refine mm_of hG (by decide +kernel) rfl (ac_c rfl (ac_c rfl ac_nil)) (Nat.le_of_ble_eq_true rfl) (fun E _ _ => ?_)
  show V G E Y_J16_get cJ16_get 3 (QM G E (kI K) xN) h 0 0 0 [(0, .ref a0), (1, .int i_1)] []
  unfold f_J16_get at hf
  refine v_iload_n (i := 1) dJ16_get_0 rfl rfl ?_
  refine v_if_ge 31 dJ16_get_1 (by decide) (fun c1 => ?_) (fun c1 => ?_)
  · replace hf := hf.1 c1
    refine v_qload_n (r := (some a0)) (i := 0) dJ16_get_31 rfl rfl ?_
    replace hf := rv_e hf
    obtain ⟨w2, fs3, hh4, hf⟩ := hf
    refine V.addK0 ?_
    refine V.addN0 ?_
    refine v_callV (mc := 0) (ms := 0) 0 dJ16_get_32 (m_J16_checkInvariants hG hf) rfl hh4 rfl (lw_V q1565 q1567 qs16 q111 q1568) rfl (by decide +kernel) (by decide) rfl (cat_len (Nat.le_of_ble_eq_true rfl)) (kk_V fun h5 hg => ?_) (fun _ _ _ hx => hx.elim)
    replace hf := hg
    clear hg
    refine v_iload_n (i := 1) dJ16_get_35 rfl rfl ?_
    refine V.addK0 ?_
    refine V.addN0 ?_
    refine v_callS (mc := 0) (ms := 0) 1 dJ16_get_36 (m_J16_wordIndex hG hf) rfl (lw_S q759 q760 q111 q761) rfl (by decide +kernel) (by decide) rfl (cat_len (Nat.le_of_ble_eq_true rfl)) (kk_I fun i7 h6 hg => ?_) (fun _ _ _ hx => hx.elim)
    replace hf := hg
    clear hg
    refine v_istore_n (i := 2) (lv' := [(0, va_rf (some a0)), (1, .int i_1), (2, .int i7)]) dJ16_get_39 rfl (Nat.le_of_ble_eq_true rfl) rfl rfl ?_
    refine v_iload_n (i := 2) dJ16_get_40 rfl rfl ?_
    refine v_qload_n (r := (some a0)) (i := 0) dJ16_get_41 rfl rfl ?_
    replace hf := gI_e hf
    obtain ⟨w9, fs10, i8, hh11, hk12, hf⟩ := hf
    refine v_getf (T := TJ16) (ci := 15) 1 dJ16_get_42 q763 rfl in_J16 (Nat.le_of_ble_eq_true rfl) (Or.inl rfl) hh11 hk12 ?_
    refine v_icmp_ge 67 dJ16_get_45 (by decide) (fun c13 => ?_) (fun c13 => ?_)
    · replace hf := hf.1 c13
      refine v_iconst (v := 0) dJ16_get_67 (by decide) ?_
      exact v_zret dJ16_get_68 rfl (by decide) ⟨_, rfl, hf⟩
    · replace hf := hf.2 c13
      refine v_qload_n (r := (some a0)) (i := 0) dJ16_get_48 rfl rfl ?_
      replace hf := gR_e hf
      obtain ⟨w15, fs16, r14, hh17, hk18, hf⟩ := hf
      refine v_getf (T := TJ16) (ci := 15) 0 dJ16_get_49 q762 rfl in_J16 (Nat.le_of_ble_eq_true rfl) (Or.inl rfl) hh17 hk18 ?_
      refine v_iload_n (i := 2) dJ16_get_52 rfl rfl ?_
      obtain ⟨a19, rfl⟩ := aJ_s hf
      replace hf := aJ_e hf
      obtain ⟨w20, N21, f22, hh23, hi24, l25, el25, hf⟩ := hf
      refine v_lald dJ16_get_53 hh23 hi24 ?_
      rw [← el25]
      refine v_lconst (v := 1) dJ16_get_54 (by decide) ?_
      refine v_iload_n (i := 1) dJ16_get_55 rfl rfl ?_
      refine v_lshl (v := (1 : Int64) <<< (i_1.toInt64 &&& 63)) dJ16_get_56 rfl ?_
      refine v_land dJ16_get_57 ?_
      refine v_lconst (v := 0) dJ16_get_58 (by decide) ?_
      refine v_lcmp dJ16_get_59 ?_
      refine v_if_eq 67 dJ16_get_60 (by decide) (fun c26 => ?_) (fun c26 => ?_)
      · replace hf := hf.1 c26
        refine v_iconst (v := 0) dJ16_get_67 (by decide) ?_
        exact v_zret dJ16_get_68 rfl (by decide) ⟨_, rfl, hf⟩
      · replace hf := hf.2 c26
        refine v_iconst (v := 1) dJ16_get_63 (by decide) ?_
        refine v_goto 68 dJ16_get_64 (by decide) ?_
        exact v_zret dJ16_get_68 rfl (by decide) ⟨_, rfl, hf⟩
  · replace hf := hf.2 c1
    exact hf.elim
abbrev Y_J33_bitCount : Yt := (yJ33_bitCount, some .int, 1, 40, [])
def bc_1 (l_0 : Int64) : Int64 :=
  l_0 - (((l_0.toUInt64 >>> ((1 : Int32).toInt64.toUInt64 &&& Int64.toUInt64 63)).toInt64) &&& (6148914691236517205 : Int64))
def bc_2 (l_0 : Int64) : Int64 :=
  (l_0 &&& (3689348814741910323 : Int64)) + (((l_0.toUInt64 >>> ((2 : Int32).toInt64.toUInt64 &&& Int64.toUInt64 63)).toInt64) &&& (3689348814741910323 : Int64))
def bc_3 (l_0 : Int64) : Int64 :=
  (l_0 + ((l_0.toUInt64 >>> ((4 : Int32).toInt64.toUInt64 &&& Int64.toUInt64 63)).toInt64)) &&& (1085102592571150095 : Int64)
def bc_4 (l_0 : Int64) : Int64 :=
  l_0 + ((l_0.toUInt64 >>> ((8 : Int32).toInt64.toUInt64 &&& Int64.toUInt64 63)).toInt64)
def bc_5 (l_0 : Int64) : Int64 :=
  l_0 + ((l_0.toUInt64 >>> ((16 : Int32).toInt64.toUInt64 &&& Int64.toUInt64 63)).toInt64)
def bc_6 (l_0 : Int64) : Int64 :=
  l_0 + ((l_0.toUInt64 >>> ((32 : Int32).toInt64.toUInt64 &&& Int64.toUInt64 63)).toInt64)
def f_J33_bitCount (G : Gt) (h : Hp) (l_0 : Int64) (K : Int32 → Hp → Prop) : Prop := K (((bc_6 (bc_5 (bc_4 (bc_3 (bc_2 (bc_1 l_0)))))).toInt32) &&& (127 : Int32)) h
theorem m_J33_bitCount {G : Gt} {h : Hp} {l_0 : Int64} {K : Int32 → Hp → Prop} (hG : Base G) (hf : f_J33_bitCount G h l_0 K) : MM G Y_J33_bitCount cJ33_bitCount 2 0 0 [.long l_0] h (kI K) xN := by
  intro l
  refine vx_ofWF (cc := cJ33_bitCount) (maxL := 2) (ret := some .int) (by decide +kernel) rfl ?_
  intro p e s m args' below meth c s₁ B hml htb hv
  obtain ⟨rfl, hR, hW⟩ := hv
  have hx := B.exec
  have hb := B.bytes
  have hown : s.vm.findClass (y_n Y_J33_bitCount).cls = some m.cls := findClass_of_methodNamed B.named
  have hts : ∀ w ∈ lw_all, w.before ([.long l_0] : List Value).toArray s = true := fun w h => by
    obtain ⟨⟨A0, h0⟩, -⟩ := hG
    exact word_at hW (good_of_word (List.mem_filter.mp h).2) (h0 _ (lw_all_tbl h))
  have hl := lv_entry ([.long l_0]) (n := 2) (Nat.le_of_ble_eq_true rfl)
  rw [lg_entry_eq]
  generalize (lg_sl ([.long l_0]) ++ List.replicate (2 - (lg_sl ([.long l_0])).length) Slot.unset).toArray = ls at hl ⊢
  have hl : lv_has ls 2 [(0, .long l_0)] := hl
  unfold f_J33_bitCount at hf
  refine lv_lload_n hx hb dJ33_bitCount_0 rfl (lv_at hl 0 rfl) ?_
  refine lv_lload_n hx hb dJ33_bitCount_1 rfl (lv_at hl 0 rfl) ?_
  refine lv_iconst (v := 1) hx hb dJ33_bitCount_2 (by decide) ?_
  refine lv_lushr (v := (l_0.toUInt64 >>> ((1 : Int32).toInt64.toUInt64 &&& Int64.toUInt64 63)).toInt64) hx hb dJ33_bitCount_3 rfl ?_
  refine lv_ldc2 hx hb hown (hts _ q2445) dJ33_bitCount_4 ?_
  refine lv_land hx hb dJ33_bitCount_7 ?_
  refine lv_lsub hx hb dJ33_bitCount_8 ?_
  refine lv_lstore_n (lv' := [(0, .long (bc_1 l_0))]) hx hb dJ33_bitCount_9 rfl hl (by decide) rfl (fun ls hl => ?_)
  refine lv_lload_n hx hb dJ33_bitCount_10 rfl (lv_at hl 0 rfl) ?_
  refine lv_ldc2 hx hb hown (hts _ q2446) dJ33_bitCount_11 ?_
  refine lv_land hx hb dJ33_bitCount_14 ?_
  refine lv_lload_n hx hb dJ33_bitCount_15 rfl (lv_at hl 0 rfl) ?_
  refine lv_iconst (v := 2) hx hb dJ33_bitCount_16 (by decide) ?_
  refine lv_lushr (v := ((bc_1 l_0).toUInt64 >>> ((2 : Int32).toInt64.toUInt64 &&& Int64.toUInt64 63)).toInt64) hx hb dJ33_bitCount_17 rfl ?_
  refine lv_ldc2 hx hb hown (hts _ q2446) dJ33_bitCount_18 ?_
  refine lv_land hx hb dJ33_bitCount_21 ?_
  refine lv_ladd hx hb dJ33_bitCount_22 ?_
  refine lv_lstore_n (lv' := [(0, .long (bc_2 (bc_1 l_0)))]) hx hb dJ33_bitCount_23 rfl hl (by decide) rfl (fun ls hl => ?_)
  refine lv_lload_n hx hb dJ33_bitCount_24 rfl (lv_at hl 0 rfl) ?_
  refine lv_lload_n hx hb dJ33_bitCount_25 rfl (lv_at hl 0 rfl) ?_
  refine lv_iconst (v := 4) hx hb dJ33_bitCount_26 (by decide) ?_
  refine lv_lushr (v := ((bc_2 (bc_1 l_0)).toUInt64 >>> ((4 : Int32).toInt64.toUInt64 &&& Int64.toUInt64 63)).toInt64) hx hb dJ33_bitCount_27 rfl ?_
  refine lv_ladd hx hb dJ33_bitCount_28 ?_
  refine lv_ldc2 hx hb hown (hts _ q2447) dJ33_bitCount_29 ?_
  refine lv_land hx hb dJ33_bitCount_32 ?_
  refine lv_lstore_n (lv' := [(0, .long (bc_3 (bc_2 (bc_1 l_0))))]) hx hb dJ33_bitCount_33 rfl hl (by decide) rfl (fun ls hl => ?_)
  refine lv_lload_n hx hb dJ33_bitCount_34 rfl (lv_at hl 0 rfl) ?_
  refine lv_lload_n hx hb dJ33_bitCount_35 rfl (lv_at hl 0 rfl) ?_
  refine lv_bipush (v := 8) hx hb dJ33_bitCount_36 (by decide) ?_
  refine lv_lushr (v := ((bc_3 (bc_2 (bc_1 l_0))).toUInt64 >>> ((8 : Int32).toInt64.toUInt64 &&& Int64.toUInt64 63)).toInt64) hx hb dJ33_bitCount_38 rfl ?_
  refine lv_ladd hx hb dJ33_bitCount_39 ?_
  refine lv_lstore_n (lv' := [(0, .long (bc_4 (bc_3 (bc_2 (bc_1 l_0)))))]) hx hb dJ33_bitCount_40 rfl hl (by decide) rfl (fun ls hl => ?_)
  refine lv_lload_n hx hb dJ33_bitCount_41 rfl (lv_at hl 0 rfl) ?_
  refine lv_lload_n hx hb dJ33_bitCount_42 rfl (lv_at hl 0 rfl) ?_
  refine lv_bipush (v := 16) hx hb dJ33_bitCount_43 (by decide) ?_
  refine lv_lushr (v := ((bc_4 (bc_3 (bc_2 (bc_1 l_0)))).toUInt64 >>> ((16 : Int32).toInt64.toUInt64 &&& Int64.toUInt64 63)).toInt64) hx hb dJ33_bitCount_45 rfl ?_
  refine lv_ladd hx hb dJ33_bitCount_46 ?_
  refine lv_lstore_n (lv' := [(0, .long (bc_5 (bc_4 (bc_3 (bc_2 (bc_1 l_0))))))]) hx hb dJ33_bitCount_47 rfl hl (by decide) rfl (fun ls hl => ?_)
  refine lv_lload_n hx hb dJ33_bitCount_48 rfl (lv_at hl 0 rfl) ?_
  refine lv_lload_n hx hb dJ33_bitCount_49 rfl (lv_at hl 0 rfl) ?_
  refine lv_bipush (v := 32) hx hb dJ33_bitCount_50 (by decide) ?_
  refine lv_lushr (v := ((bc_5 (bc_4 (bc_3 (bc_2 (bc_1 l_0))))).toUInt64 >>> ((32 : Int32).toInt64.toUInt64 &&& Int64.toUInt64 63)).toInt64) hx hb dJ33_bitCount_52 rfl ?_
  refine lv_ladd hx hb dJ33_bitCount_53 ?_
  refine lv_lstore_n (lv' := [(0, .long (bc_6 (bc_5 (bc_4 (bc_3 (bc_2 (bc_1 l_0)))))))]) hx hb dJ33_bitCount_54 rfl hl (by decide) rfl (fun ls hl => ?_)
  refine lv_lload_n hx hb dJ33_bitCount_55 rfl (lv_at hl 0 rfl) ?_
  refine lv_l2i (v := (bc_6 (bc_5 (bc_4 (bc_3 (bc_2 (bc_1 l_0)))))).toInt32) hx hb dJ33_bitCount_56 rfl ?_
  refine lv_bipush (v := 127) hx hb dJ33_bitCount_57 (by decide) ?_
  refine lv_iand hx hb dJ33_bitCount_59 ?_
  exact vx_ret (W.iret hx hb B.returns (fun t ht hW => ⟨⟨_, h, rfl, ⟨_, rfl, hf⟩, by rw [ht]; exact hR⟩, by rw [ht]; exact Nat.le_refl _⟩) (fun _ h => nomatch h) dJ33_bitCount_60 B.notSynchronized)
abbrev Y_J16_cardinality : Yt := (yJ16_cardinality, some (.int), 2, 61, [])
def g_J16_cardinality_0 (G : Gt) (E : Ev) (h : Hp) (k n : Nat) (a0 : Nat) (K : Int32 → Hp → Prop) : Prop :=
V G E Y_J16_cardinality cJ16_cardinality 3 (QM G E (kI K) xN) h k n 4 [(0, .ref a0), (1, .int (0 : Int32)), (2, .int (0 : Int32))] []
theorem s_J16_cardinality_0 {G : Gt} {E : Ev} {h : Hp} {k0 n0 : Nat} {a0 : Nat} {K : Int32 → Hp → Prop} (hG : Base G) (hA : 0 ≤ k0) (hB : 0 ≤ n0) (hf : g_J16_cardinality_0 G E h (k0 - 0) (n0 - 0) a0 K) : V G E Y_J16_cardinality cJ16_cardinality 3 (QM G E (kI K) xN) h k0 n0 0 [(0, .ref a0)] [] := by
  obtain ⟨k, hk9⟩ : ∃ z, z = k0 - 0 := ⟨_, rfl⟩
  obtain ⟨n, hn9⟩ : ∃ z, z = n0 - 0 := ⟨_, rfl⟩
  rw [← hk9, ← hn9] at hf
  refine V.weak (k' := k + 0) (n' := n + 0) ?_ (by omega) (by omega)
  unfold g_J16_cardinality_0 at hf
  refine v_iconst (v := 0) dJ16_cardinality_0 (by decide) ?_
  refine v_istore_n (i := 1) (lv' := [(0, .ref a0), (1, .int (0 : Int32))]) dJ16_cardinality_1 rfl (Nat.le_of_ble_eq_true rfl) rfl rfl ?_
  refine v_iconst (v := 0) dJ16_cardinality_2 (by decide) ?_
  refine v_istore_n (i := 2) (lv' := [(0, .ref a0), (1, .int (0 : Int32)), (2, .int (0 : Int32))]) dJ16_cardinality_3 rfl (Nat.le_of_ble_eq_true rfl) rfl rfl ?_
  exact V.weak hf (by omega) (by omega)
def g_J16_cardinality_4 (G : Gt) (E : Ev) (h : Hp) (k n : Nat) (a0 : Nat) (i_1 : Int32) (i_2 : Int32) (K : Int32 → Hp → Prop) : Prop :=
gI h (some a0) 15 1 fun i1 =>
((i1 ≤ i_2 → K i_1 h) ∧
(¬ (i1 ≤ i_2) → gR h (some a0) 15 0 fun r7 =>
aJ h r7 2 i_2 fun l18 =>
f_J33_bitCount G h l18 (fun i20 h19 =>
V G E Y_J16_cardinality cJ16_cardinality 3 (QM G E (kI K) xN) h19 k n 4 [(0, .ref a0), (1, .int (i_1 + i20)), (2, .int (i_2 + (1 : Int32)))] [])))
theorem s_J16_cardinality_4 {G : Gt} {E : Ev} {h : Hp} {k0 n0 : Nat} {a0 : Nat} {i_1 : Int32} {i_2 : Int32} {K : Int32 → Hp → Prop} (hG : Base G) (hA : 0 ≤ k0) (hB : 0 ≤ n0) (hf : g_J16_cardinality_4 G E h (k0 - 0) (n0 - 0) a0 i_1 i_2 K) : V G E Y_J16_cardinality cJ16_cardinality 3 (QM G E (kI K) xN) h k0 n0 4 [(0, .ref a0), (1, .int i_1), (2, .int i_2)] [] := by
  obtain ⟨k, hk9⟩ : ∃ z, z = k0 - 0 := ⟨_, rfl⟩
  obtain ⟨n, hn9⟩ : ∃ z, z = n0 - 0 := ⟨_, rfl⟩
  rw [← hk9, ← hn9] at hf
  refine V.weak (k' := k + 0) (n' := n + 0) ?_ (by omega) (by omega)
  unfold g_J16_cardinality_4 at hf
  refine v_iload_n (i := 2) dJ16_cardinality_4 rfl rfl ?_
  refine v_aload_n (i := 0) dJ16_cardinality_5 rfl rfl ?_
  replace hf := gI_e hf
  obtain ⟨w2, fs3, i1, hh4, hk5, hf⟩ := hf
  refine v_getf (T := TJ16) (ci := 15) 1 dJ16_cardinality_6 q763 rfl in_J16 (Nat.le_of_ble_eq_true rfl) (Or.inl rfl) hh4 hk5 ?_
  refine v_icmp_ge 30 dJ16_cardinality_9 (by decide) (fun c6 => ?_) (fun c6 => ?_)
  · replace hf := hf.1 c6
    refine v_iload_n (i := 1) dJ16_cardinality_30 rfl rfl ?_
    exact v_iret dJ16_cardinality_31 rfl ⟨_, rfl, hf⟩
  · replace hf := hf.2 c6
    refine v_iload_n (i := 1) dJ16_cardinality_12 rfl rfl ?_
    refine v_aload_n (i := 0) dJ16_cardinality_13 rfl rfl ?_
    replace hf := gR_e hf
    obtain ⟨w8, fs9, r7, hh10, hk11, hf⟩ := hf
    refine v_getf (T := TJ16) (ci := 15) 0 dJ16_cardinality_14 q762 rfl in_J16 (Nat.le_of_ble_eq_true rfl) (Or.inl rfl) hh10 hk11 ?_
    refine v_iload_n (i := 2) dJ16_cardinality_17 rfl rfl ?_
    obtain ⟨a12, rfl⟩ := aJ_s hf
    replace hf := aJ_e hf
    obtain ⟨w13, N14, f15, hh16, hi17, l18, el18, hf⟩ := hf
    refine v_lald dJ16_cardinality_18 hh16 hi17 ?_
    rw [← el18]
    refine V.addK0 ?_
    refine V.addN0 ?_
    refine v_callS (mc := 0) (ms := 0) 1 dJ16_cardinality_19 (m_J33_bitCount hG hf) rfl (lw_S q2442 q2443 q130 q2444) rfl (by decide +kernel) (by decide) rfl (cat_len (Nat.le_of_ble_eq_true rfl)) (kk_I fun i20 h19 hg => ?_) (fun _ _ _ hx => hx.elim)
    replace hf := hg
    clear hg
    refine v_iadd dJ16_cardinality_22 ?_
    refine v_istore_n (i := 1) (lv' := [(0, .ref a0), (1, .int (i_1 + i20)), (2, .int i_2)]) dJ16_cardinality_23 rfl (Nat.le_of_ble_eq_true rfl) rfl rfl ?_
    refine v_iinc (i := 2) (v := i_2 + (1 : Int32)) (lv' := [(0, .ref a0), (1, .int (i_1 + i20)), (2, .int (i_2 + (1 : Int32)))]) dJ16_cardinality_24 rfl rfl (Nat.le_of_ble_eq_true rfl) rfl rfl ?_
    refine v_goto 4 dJ16_cardinality_27 (by decide) ?_
    exact V.weak hf (by omega) (by omega)
theorem b_J16_cardinality {G : Gt} {h : Hp} {mc ms : Nat} {a0 : Nat} {K : Int32 → Hp → Prop} (hG : Base G) (hf : ∀ E : Ev, V G E Y_J16_cardinality cJ16_cardinality 3 (QM G E (kI K) xN) h mc ms 0 [(0, .ref a0)] []) : MM G Y_J16_cardinality cJ16_cardinality 3 mc ms [.ref a0] h (kI K) xN := mm_of hG (by decide +kernel) rfl (ac_c rfl ac_nil) (Nat.le_of_ble_eq_true rfl) (fun E _ _ => hf E)
abbrev Y_J16_initWords : Yt := (yJ16_initWords, none, 2, 60, [])
def f_J16_initWords (G : Gt) (h : Hp) (t_0 : Option Nat) (i_1 : Int32) (K : Hp → Prop) : Prop :=
f_J16_wordIndex G h (i_1 - (1 : Int32)) (fun i2 h1 =>
nD (i2 + (1 : Int32)) 1 fun N5 =>
nA h1 2 (N5, .inr (.inl (fun _ => 0))) fun a3 h4 =>
pF h4 t_0 15 0 (.ref a3) fun h8 =>
K h8)
theorem m_J16_initWords {G : Gt} {h : Hp} {a0 : Nat} {i_1 : Int32} {K : Hp → Prop} (hG : Base G) (hf : f_J16_initWords G h (some a0) i_1 K) : MM G Y_J16_initWords cJ16_initWords 2 1 1 [.ref a0, .int i_1] h (kV K) xN := by
  refine mm_of hG (by decide +kernel) rfl (ac_c rfl (ac_c rfl ac_nil)) (Nat.le_of_ble_eq_true rfl) (fun E _ _ => ?_)
  show V G E Y_J16_initWords cJ16_initWords 2 (QM G E (kV K) xN) h 1 1 0 [(0, .ref a0), (1, .int i_1)] []
  unfold f_J16_initWords at hf
  refine v_qload_n (r := (some a0)) (i := 0) dJ16_initWords_0 rfl rfl ?_
  refine v_iload_n (i := 1) dJ16_initWords_1 rfl rfl ?_
  refine v_iconst (v := 1) dJ16_initWords_2 (by decide) ?_
  refine v_isub dJ16_initWords_3 ?_
  refine V.addK0 ?_
  refine V.addN0 ?_
  refine v_callS (mc := 0) (ms := 0) 1 dJ16_initWords_4 (m_J16_wordIndex hG hf) rfl (lw_S q759 q760 q111 q761) rfl (by decide +kernel) (by decide) rfl (cat_len (Nat.le_of_ble_eq_true rfl)) (kk_I fun i2 h1 hg => ?_) (fun _ _ _ hx => hx.elim)
  replace hf := hg
  clear hg
  refine v_iconst (v := 1) dJ16_initWords_7 (by decide) ?_
  refine v_iadd dJ16_initWords_8 ?_
  obtain ⟨N5, hzN5, hbN5, hf⟩ := hf
  refine V.weakN (b := 1) hbN5 ?_
  refine v_newa (t := 2) (N := N5) (x := (N5, .inr (.inl (fun _ => 0)))) dJ16_initWords_9 (Nat.le_of_ble_eq_true rfl) rfl q772 (fun _ => rfl) hzN5 (Nat.le_trans (Nat.mul_le_mul_right _ hbN5) (Nat.le_of_ble_eq_true rfl)) (fun a3 ha3 => ?_)
  replace hf := hf a3 ha3
  obtain ⟨h4, eh4⟩ : ∃ z, z = hs h1 a3 (true, .inl (2, (N5, .inr (.inl (fun _ => 0))))) := ⟨_, rfl⟩
  try rw [← eh4] at hf
  rw [← eh4]
  replace hf := pF_e hf
  obtain ⟨fs6, hh7, hf⟩ := hf
  refine v_putf (v := .ref a3) (T := TJ16) (ci := 15) (ty := .array (.long)) 0 dJ16_initWords_11 q762 rfl in_J16 tyJ16 tyJ16_ok nmJ16 (Nat.le_of_ble_eq_true rfl) (Or.inl rfl) rfl (by decide +kernel) rfl rfl hh7 ?_
  obtain ⟨h8, eh8⟩ : ∃ z, z = hs h4 a0 (true, .inr (15, fs6.set 0 (.ref a3))) := ⟨_, rfl⟩
  try rw [← eh8] at hf
  rw [← eh8]
  exact v_vret dJ16_initWords_14 rfl ⟨rfl, hf⟩
abbrev Y_J16_init : Yt := (yJ16_init, none, 3, 81, [])
def f_J16_init (G : Gt) (h : Hp) (t_0 : Option Nat) (K : Hp → Prop) : Prop :=
pF h t_0 15 1 (.int (0 : Int32)) fun h3 =>
((narrow .boolean (.int (0 : Int32)) = .int (0 : Int32) ∧ fits .boolean (.int (0 : Int32)) = true) ∧ pF h3 t_0 15 2 (.int (0 : Int32)) fun h6 =>
rv h6 t_0 15 (f_J16_initWords G h6 t_0 (64 : Int32) (fun h10 =>
((narrow .boolean (.int (0 : Int32)) = .int (0 : Int32) ∧ fits .boolean (.int (0 : Int32)) = true) ∧ pF h10 t_0 15 2 (.int (0 : Int32)) fun h13 =>
K h13))))
theorem m_J16_init {G : Gt} {h : Hp} {a0 : Nat} {K : Hp → Prop} (hG : Base G) (hf : f_J16_init G h (some a0) K) : MM G Y_J16_init cJ16_init 1 1 1 [.ref a0] h (kV K) xN := by
  refine mm_of hG (by decide +kernel) rfl (ac_c rfl ac_nil) (Nat.le_of_ble_eq_true rfl) (fun E _ _ => ?_)
  show V G E Y_J16_init cJ16_init 1 (QM G E (kV K) xN) h 1 1 0 [(0, .ref a0)] []
  unfold f_J16_init at hf
  refine v_qload_n (r := (some a0)) (i := 0) dJ16_init_0 rfl rfl ?_
  refine v_objInit dJ16_init_1 q754 q153 q154 (cat_len (Nat.le_of_ble_eq_true rfl)) (Nat.le_of_ble_eq_true rfl) (Nat.le_of_ble_eq_true rfl) ?_
  refine v_qload_n (r := (some a0)) (i := 0) dJ16_init_4 rfl rfl ?_
  refine v_iconst (v := 0) dJ16_init_5 (by decide) ?_
  replace hf := pF_e hf
  obtain ⟨fs1, hh2, hf⟩ := hf
  refine v_putf (v := .int (0 : Int32)) (T := TJ16) (ci := 15) (ty := .int) 1 dJ16_init_6 q763 rfl in_J16 tyJ16 tyJ16_ok nmJ16 (Nat.le_of_ble_eq_true rfl) (Or.inl rfl) rfl (by decide +kernel) rfl rfl hh2 ?_
  obtain ⟨h3, eh3⟩ : ∃ z, z = hs h a0 (true, .inr (15, fs1.set 1 (.int (0 : Int32)))) := ⟨_, rfl⟩
  try rw [← eh3] at hf
  rw [← eh3]
  refine v_qload_n (r := (some a0)) (i := 0) dJ16_init_9 rfl rfl ?_
  refine v_iconst (v := 0) dJ16_init_10 (by decide) ?_
  obtain ⟨hnr, hf⟩ := hf
  replace hf := pF_e hf
  obtain ⟨fs4, hh5, hf⟩ := hf
  refine v_putf (v := .int (0 : Int32)) (T := TJ16) (ci := 15) (ty := .boolean) 2 dJ16_init_11 q764 rfl in_J16 tyJ16 tyJ16_ok nmJ16 (Nat.le_of_ble_eq_true rfl) (Or.inl rfl) rfl (by decide +kernel) hnr.1 hnr.2 hh5 ?_
  obtain ⟨h6, eh6⟩ : ∃ z, z = hs h3 a0 (true, .inr (15, fs4.set 2 (.int (0 : Int32)))) := ⟨_, rfl⟩
  try rw [← eh6] at hf
  rw [← eh6]
  refine v_qload_n (r := (some a0)) (i := 0) dJ16_init_14 rfl rfl ?_
  refine v_bipush (v := 64) dJ16_init_15 (by decide) ?_
  replace hf := rv_e hf
  obtain ⟨w7, fs8, hh9, hf⟩ := hf
  refine v_callV (mc := 1) (ms := 1) 1 dJ16_init_17 (m_J16_initWords hG hf) rfl hh9 rfl (lw_V q755 q757 qs10 q111 q758) rfl (by decide +kernel) (by decide) rfl (cat_len (Nat.le_of_ble_eq_true rfl)) (kk_V fun h10 hg => ?_) (fun _ _ _ hx => hx.elim)
  replace hf := hg
  clear hg
  refine v_qload_n (r := (some a0)) (i := 0) dJ16_init_20 rfl rfl ?_
  refine v_iconst (v := 0) dJ16_init_21 (by decide) ?_
  obtain ⟨hnr, hf⟩ := hf
  replace hf := pF_e hf
  obtain ⟨fs11, hh12, hf⟩ := hf
  refine v_putf (v := .int (0 : Int32)) (T := TJ16) (ci := 15) (ty := .boolean) 2 dJ16_init_22 q764 rfl in_J16 tyJ16 tyJ16_ok nmJ16 (Nat.le_of_ble_eq_true rfl) (Or.inl rfl) rfl (by decide +kernel) hnr.1 hnr.2 hh12 ?_
  obtain ⟨h13, eh13⟩ : ∃ z, z = hs h10 a0 (true, .inr (15, fs11.set 2 (.int (0 : Int32)))) := ⟨_, rfl⟩
  try rw [← eh13] at hf
  rw [← eh13]
  exact v_vret dJ16_init_25 rfl ⟨rfl, hf⟩
abbrev Y_J35_init : Yt := (yJ35_init, none, 3, 80, [])
def f_J35_init (G : Gt) (h : Hp) (t_0 : Option Nat) (r_1 : Option Nat) (i_2 : Int32) (K : Hp → Prop) : Prop :=
pF h t_0 22 1 (va_rf r_1) fun h3 =>
f_J17_init G h3 t_0 (fun h4 =>
((narrow .boolean (.int i_2) = .int i_2 ∧ fits .boolean (.int i_2) = true) ∧ pF h4 t_0 22 0 (.int i_2) fun h7 =>
K h7))
theorem m_J35_init {G : Gt} {h : Hp} {a0 : Nat} {r_1 : Option Nat} {i_2 : Int32} {K : Hp → Prop} (hG : Base G) (hf : f_J35_init G h (some a0) r_1 i_2 K) : MM G Y_J35_init cJ35_init 3 0 0 [.ref a0, va_rf r_1, .int i_2] h (kV K) xN := by
  refine mm_of hG (by decide +kernel) rfl (ac_c rfl (ac_c (rf_cat _) (ac_c rfl ac_nil))) (Nat.le_of_ble_eq_true rfl) (fun E _ _ => ?_)
  show V G E Y_J35_init cJ35_init 3 (QM G E (kV K) xN) h 0 0 0 [(0, .ref a0), (1, va_rf r_1), (2, .int i_2)] []
  unfold f_J35_init at hf
  refine v_qload_n (r := (some a0)) (i := 0) dJ35_init_0 rfl rfl ?_
  refine v_qload_n (r := r_1) (i := 1) dJ35_init_1 rfl rfl ?_
  replace hf := pF_e hf
  obtain ⟨fs1, hh2, hf⟩ := hf
  refine v_putfF (v := va_rf r_1) (T := TJ35) (ci := 22) (ty := .object "java/util/LinkedHashMap") 1 dJ35_init_2 q1862 rfl in_J35 tyJ35 tyJ35_ok nmJ35 (Nat.le_of_ble_eq_true rfl) (Or.inl rfl) rfl rfl rfl (by decide +kernel) (rf_nar _ _) (rf_fit _ _) hh2 ?_
  obtain ⟨h3, eh3⟩ : ∃ z, z = hs h a0 (true, .inr (22, fs1.set 1 (va_rf r_1))) := ⟨_, rfl⟩
  try rw [← eh3] at hf
  rw [← eh3]
  refine v_qload_n (r := (some a0)) (i := 0) dJ35_init_5 rfl rfl ?_
  refine V.addK0 ?_
  refine V.addN0 ?_
  refine v_callI (mc := 0) (ms := 0) 0 dJ35_init_6 (m_J17_init hG hf) rfl (lw_meth q788) rfl q112 q1860 q787 rfl rfl (by decide +kernel) (by decide) rfl (cat_len (Nat.le_of_ble_eq_true rfl)) (kk_V fun h4 hg => ?_) (fun _ _ _ hx => hx.elim)
  replace hf := hg
  clear hg
  refine v_qload_n (r := (some a0)) (i := 0) dJ35_init_9 rfl rfl ?_
  refine v_iload_n (i := 2) dJ35_init_10 rfl rfl ?_
  obtain ⟨hnr, hf⟩ := hf
  replace hf := pF_e hf
  obtain ⟨fs5, hh6, hf⟩ := hf
  refine v_putfF (v := .int i_2) (T := TJ35) (ci := 22) (ty := .boolean) 0 dJ35_init_11 q1861 rfl in_J35 tyJ35 tyJ35_ok nmJ35 (Nat.le_of_ble_eq_true rfl) (Or.inl rfl) rfl rfl rfl (by decide +kernel) hnr.1 hnr.2 hh6 ?_
  obtain ⟨h7, eh7⟩ : ∃ z, z = hs h4 a0 (true, .inr (22, fs5.set 0 (.int i_2))) := ⟨_, rfl⟩
  try rw [← eh7] at hf
  rw [← eh7]
  exact v_vret dJ35_init_14 rfl ⟨rfl, hf⟩
abbrev Y_J22_sequencedKeySet : Yt := (yJ22_sequencedKeySet, some (.object "java/util/SequencedSet"), 4, 102, [])
def f_J22_sequencedKeySet (G : Gt) (h : Hp) (t_0 : Option Nat) (K : Option Nat → Hp → Prop) : Prop :=
gR h t_0 17 6 fun r1 =>
((r1 = none → nO h 22 [.int 0, .null] fun a8 h9 =>
f_J35_init G h9 (some a8) t_0 (0 : Int32) (fun h10 =>
pF h10 t_0 17 6 (.ref a8) fun h13 =>
K (some a8) h13)) ∧
(∀ y6, r1 = some y6 → (oc h r1 22 ∧ K r1 h)))
theorem m_J22_sequencedKeySet {G : Gt} {h : Hp} {a0 : Nat} {K : Option Nat → Hp → Prop} (hG : Base G) (hf : f_J22_sequencedKeySet G h (some a0) K) : MM G Y_J22_sequencedKeySet cJ22_sequencedKeySet 3 1 2 [.ref a0] h (kR K) xN := by
  refine mm_of hG (by decide +kernel) rfl (ac_c rfl ac_nil) (Nat.le_of_ble_eq_true rfl) (fun E _ _ => ?_)
  show V G E Y_J22_sequencedKeySet cJ22_sequencedKeySet 3 (QM G E (kR K) xN) h 1 2 0 [(0, .ref a0)] []
  unfold f_J22_sequencedKeySet at hf
  refine v_qload_n (r := (some a0)) (i := 0) dJ22_sequencedKeySet_0 rfl rfl ?_
  replace hf := gR_e hf
  obtain ⟨w2, fs3, r1, hh4, hk5, hf⟩ := hf
  refine v_getf (T := TJ22) (ci := 17) 6 dJ22_sequencedKeySet_1 q835 rfl in_J22 (Nat.le_of_ble_eq_true rfl) (Or.inr q836) hh4 hk5 ?_
  refine v_qstore_n (i := 1) (r := r1) (lv' := [(0, va_rf (some a0)), (1, va_rf r1)]) dJ22_sequencedKeySet_4 rfl (Nat.le_of_ble_eq_true rfl) rfl rfl ?_
  refine v_qload_n (r := r1) (i := 1) dJ22_sequencedKeySet_5 rfl rfl ?_
  refine v_ifnonnull 26 dJ22_sequencedKeySet_6 (by decide) (fun y6 e7 => ?_) (fun e7 => ?_)
  · replace hf := hf.2 y6 e7
    subst e7
    refine v_qload_n (r := (some y6)) (i := 1) dJ22_sequencedKeySet_26 rfl rfl ?_
    obtain ⟨hoc, hf⟩ := hf
    refine v_castQ (r := (some y6)) dJ22_sequencedKeySet_27 q1868 hoc rfl q2882 ?_
    exact v_qret (r := (some y6)) dJ22_sequencedKeySet_30 rfl (Or.inl ⟨_, rfl⟩) ⟨_, rfl, hf⟩
  · replace hf := hf.1 e7
    subst e7
    refine v_new (N := 2) (fs := [.int 0, .null]) (ci := 22) dJ22_sequencedKeySet_9 q1855 q1856 q133 rfl in_J35 tyJ35 tyJ35_ok rfl (fun a8 ha8 => ?_)
    replace hf := hf a8 ha8
    obtain ⟨h9, eh9⟩ : ∃ z, z = hs h a8 (true, .inr (22, [.int 0, .null])) := ⟨_, rfl⟩
    try rw [← eh9] at hf
    rw [← eh9]
    refine v_dup dJ22_sequencedKeySet_12 rfl ?_
    refine v_qload_n (r := (some a0)) (i := 0) dJ22_sequencedKeySet_13 rfl rfl ?_
    refine v_iconst (v := 0) dJ22_sequencedKeySet_14 (by decide) ?_
    refine V.addK0 ?_
    refine V.addN0 ?_
    refine v_callI (mc := 0) (ms := 0) 2 dJ22_sequencedKeySet_15 (m_J35_init hG hf) rfl (lw_meth q1859) rfl q133 q1857 q1858 rfl rfl (by decide +kernel) (by decide) rfl (cat_len (Nat.le_of_ble_eq_true rfl)) (kk_V fun h10 hg => ?_) (fun _ _ _ hx => hx.elim)
    replace hf := hg
    clear hg
    refine v_astore_n (i := 2) (lv' := [(0, va_rf (some a0)), (1, va_rf none), (2, .ref a8)]) dJ22_sequencedKeySet_18 rfl (Nat.le_of_ble_eq_true rfl) rfl rfl ?_
    refine v_qload_n (r := (some a0)) (i := 0) dJ22_sequencedKeySet_19 rfl rfl ?_
    refine v_aload_n (i := 2) dJ22_sequencedKeySet_20 rfl rfl ?_
    replace hf := pF_e hf
    obtain ⟨fs11, hh12, hf⟩ := hf
    refine v_putf (v := .ref a8) (T := TJ22) (ci := 17) (ty := .object "java/util/Set") 6 dJ22_sequencedKeySet_21 q835 rfl in_J22 tyJ22 tyJ22_ok nmJ22 (Nat.le_of_ble_eq_true rfl) (Or.inr q836) rfl (by decide +kernel) rfl rfl hh12 ?_
    obtain ⟨h13, eh13⟩ : ∃ z, z = hs h10 a0 (true, .inr (17, fs11.set 6 (.ref a8))) := ⟨_, rfl⟩
    try rw [← eh13] at hf
    rw [← eh13]
    refine v_aload_n (i := 2) dJ22_sequencedKeySet_24 rfl rfl ?_
    exact v_qret (r := (some a8)) dJ22_sequencedKeySet_25 rfl (Or.inl ⟨_, rfl⟩) ⟨_, rfl, hf⟩
abbrev Y_J22_keySet : Yt := (yJ22_keySet, some (.object "java/util/Set"), 5, 124, [])
def f_J22_keySet (G : Gt) (h : Hp) (t_0 : Option Nat) (K : Option Nat → Hp → Prop) : Prop :=
rv h t_0 17 (f_J22_sequencedKeySet G h t_0 (fun r5 h4 =>
K r5 h4))
theorem m_J22_keySet {G : Gt} {h : Hp} {a0 : Nat} {K : Option Nat → Hp → Prop} (hG : Base G) (hf : f_J22_keySet G h (some a0) K) : MM G Y_J22_keySet cJ22_keySet 1 1 2 [.ref a0] h (kR K) xN := by
  refine mm_of hG (by decide +kernel) rfl (ac_c rfl ac_nil) (Nat.le_of_ble_eq_true rfl) (fun E _ _ => ?_)
  show V G E Y_J22_keySet cJ22_keySet 1 (QM G E (kR K) xN) h 1 2 0 [(0, .ref a0)] []
  unfold f_J22_keySet at hf
  refine v_qload_n (r := (some a0)) (i := 0) dJ22_keySet_0 rfl rfl ?_
  replace hf := rv_e hf
  obtain ⟨w1, fs2, hh3, hf⟩ := hf
  refine v_callV (mc := 1) (ms := 2) 0 dJ22_keySet_1 (m_J22_sequencedKeySet hG hf) rfl hh3 rfl (lw_V q1851 q1852 q1853 q117 q1854) rfl (by decide +kernel) (by decide) rfl (cat_len (Nat.le_of_ble_eq_true rfl)) (kk_R fun r5 h4 hg => ?_) (fun _ _ _ hx => hx.elim)
  replace hf := hg
  clear hg
  exact v_qret (r := r5) dJ22_keySet_4 rfl (Or.inl ⟨_, rfl⟩) ⟨_, rfl, hf⟩
abbrev Y_J27_isElementIndex : Yt := (yJ27_isElementIndex, some (.boolean), 1, 40, [])
def f_J27_isElementIndex (G : Gt) (h : Hp) (t_0 : Option Nat) (i_1 : Int32) (K : Int32 → Hp → Prop) : Prop :=
((i_1 < 0 → K (0 : Int32) h) ∧
(¬ (i_1 < 0) → gI h t_0 19 1 fun i2 =>
((i2 ≤ i_1 → K (0 : Int32) h) ∧
(¬ (i2 ≤ i_1) → K (1 : Int32) h))))
theorem m_J27_isElementIndex {G : Gt} {h : Hp} {a0 : Nat} {i_1 : Int32} {K : Int32 → Hp → Prop} (hG : Base G) (hf : f_J27_isElementIndex G h (some a0) i_1 K) : MM G Y_J27_isElementIndex cJ27_isElementIndex 2 0 0 [.ref a0, .int i_1] h (kI K) xN := by
  refine mm_of hG (by decide +kernel) rfl (ac_c rfl (ac_c rfl ac_nil)) (Nat.le_of_ble_eq_true rfl) (fun E _ _ => ?_)
  show V G E Y_J27_isElementIndex cJ27_isElementIndex 2 (QM G E (kI K) xN) h 0 0 0 [(0, .ref a0), (1, .int i_1)] []
  unfold f_J27_isElementIndex at hf
  refine v_iload_n (i := 1) dJ27_isElementIndex_0 rfl rfl ?_
  refine v_if_lt 16 dJ27_isElementIndex_1 (by decide) (fun c1 => ?_) (fun c1 => ?_)
  · replace hf := hf.1 c1
    refine v_iconst (v := 0) dJ27_isElementIndex_16 (by decide) ?_
    exact v_zret dJ27_isElementIndex_17 rfl (by decide) ⟨_, rfl, hf⟩
  · replace hf := hf.2 c1
    refine v_iload_n (i := 1) dJ27_isElementIndex_4 rfl rfl ?_
    refine v_qload_n (r := (some a0)) (i := 0) dJ27_isElementIndex_5 rfl rfl ?_
    replace hf := gI_e hf
    obtain ⟨w3, fs4, i2, hh5, hk6, hf⟩ := hf
    refine v_getf (T := TJ27) (ci := 19) 1 dJ27_isElementIndex_6 q875 rfl in_J27 (Nat.le_of_ble_eq_true rfl) (Or.inl rfl) hh5 hk6 ?_
    refine v_icmp_ge 16 dJ27_isElementIndex_9 (by decide) (fun c7 => ?_) (fun c7 => ?_)
    · replace hf := hf.1 c7
      refine v_iconst (v := 0) dJ27_isElementIndex_16 (by decide) ?_
      exact v_zret dJ27_isElementIndex_17 rfl (by decide) ⟨_, rfl, hf⟩
    · replace hf := hf.2 c7
      refine v_iconst (v := 1) dJ27_isElementIndex_12 (by decide) ?_
      refine v_goto 17 dJ27_isElementIndex_13 (by decide) ?_
      exact v_zret dJ27_isElementIndex_17 rfl (by decide) ⟨_, rfl, hf⟩
abbrev Y_J27_checkElementIndex : Yt := (yJ27_checkElementIndex, none, 2, 61, [])
def f_J27_checkElementIndex (G : Gt) (h : Hp) (t_0 : Option Nat) (i_1 : Int32) (K : Hp → Prop) : Prop :=
rv h t_0 19 (f_J27_isElementIndex G h t_0 i_1 (fun i5 h4 =>
((¬ (i5 = 0) → K h4) ∧
(i5 = 0 → False))))
theorem m_J27_checkElementIndex {G : Gt} {h : Hp} {a0 : Nat} {i_1 : Int32} {K : Hp → Prop} (hG : Base G) (hf : f_J27_checkElementIndex G h (some a0) i_1 K) : MM G Y_J27_checkElementIndex cJ27_checkElementIndex 2 0 0 [.ref a0, .int i_1] h (kV K) xN := by
  refine mm_of hG (by decide +kernel) rfl (ac_c rfl (ac_c rfl ac_nil)) (Nat.le_of_ble_eq_true rfl) (fun E _ _ => ?_)
  show V G E Y_J27_checkElementIndex cJ27_checkElementIndex 2 (QM G E (kV K) xN) h 0 0 0 [(0, .ref a0), (1, .int i_1)] []
  unfold f_J27_checkElementIndex at hf
  refine v_qload_n (r := (some a0)) (i := 0) dJ27_checkElementIndex_0 rfl rfl ?_
  refine v_iload_n (i := 1) dJ27_checkElementIndex_1 rfl rfl ?_
  replace hf := rv_e hf
  obtain ⟨w1, fs2, hh3, hf⟩ := hf
  refine V.addK0 ?_
  refine V.addN0 ?_
  refine v_callV (mc := 0) (ms := 0) 1 dJ27_checkElementIndex_2 (m_J27_isElementIndex hG hf) rfl hh3 rfl (lw_V q1816 q1818 qs33 q122 q1819) rfl (by decide +kernel) (by decide) rfl (cat_len (Nat.le_of_ble_eq_true rfl)) (kk_I fun i5 h4 hg => ?_) (fun _ _ _ hx => hx.elim)
  replace hf := hg
  clear hg
  refine v_if_ne 21 dJ27_checkElementIndex_5 (by decide) (fun c6 => ?_) (fun c6 => ?_)
  · replace hf := hf.1 c6
    exact v_vret dJ27_checkElementIndex_21 rfl ⟨rfl, hf⟩
  · replace hf := hf.2 c6
    exact hf.elim
abbrev Y_J27_node : Yt := (yJ27_node, some (.object "java/util/LinkedList$Node"), 1, 40, [])
def g_J27_node_0 (G : Gt) (E : Ev) (h : Hp) (k n : Nat) (a0 : Nat) (i_1 : Int32) (K : Option Nat → Hp → Prop) : Prop :=
gI h (some a0) 19 1 fun i1 =>
((i1 >>> ((1 : Int32) &&& 31) ≤ i_1 → gR h (some a0) 19 3 fun r7 =>
gI h (some a0) 19 1 fun i12 =>
V G E Y_J27_node cJ27_node 4 (QM G E (kR K) xN) h k n 47 [(1, .int i_1), (2, va_rf r7), (3, .int (i12 - (1 : Int32)))] []) ∧
(¬ (i1 >>> ((1 : Int32) &&& 31) ≤ i_1) → gR h (some a0) 19 2 fun r17 =>
V G E Y_J27_node cJ27_node 4 (QM G E (kR K) xN) h k n 17 [(1, .int i_1), (2, va_rf r17), (3, .int (0 : Int32))] []))
theorem s_J27_node_0 {G : Gt} {E : Ev} {h : Hp} {k0 n0 : Nat} {a0 : Nat} {i_1 : Int32} {K : Option Nat → Hp → Prop} (hG : Base G) (hA : 0 ≤ k0) (hB : 0 ≤ n0) (hf : g_J27_node_0 G E h (k0 - 0) (n0 - 0) a0 i_1 K) : V G E Y_J27_node cJ27_node 4 (QM G E (kR K) xN) h k0 n0 0 [(0, .ref a0), (1, .int i_1)] [] := by
  obtain ⟨k, hk9⟩ : ∃ z, z = k0 - 0 := ⟨_, rfl⟩
  obtain ⟨n, hn9⟩ : ∃ z, z = n0 - 0 := ⟨_, rfl⟩
  rw [← hk9, ← hn9] at hf
  refine V.weak (k' := k + 0) (n' := n + 0) ?_ (by omega) (by omega)
  unfold g_J27_node_0 at hf
  refine v_iload_n (i := 1) dJ27_node_0 rfl rfl ?_
  refine v_aload_n (i := 0) dJ27_node_1 rfl rfl ?_
  replace hf := gI_e hf
  obtain ⟨w2, fs3, i1, hh4, hk5, hf⟩ := hf
  refine v_getf (T := TJ27) (ci := 19) 1 dJ27_node_2 q875 rfl in_J27 (Nat.le_of_ble_eq_true rfl) (Or.inl rfl) hh4 hk5 ?_
  refine v_iconst (v := 1) dJ27_node_5 (by decide) ?_
  refine v_ishr dJ27_node_6 ?_
  refine v_icmp_ge 35 dJ27_node_7 (by decide) (fun c6 => ?_) (fun c6 => ?_)
  · replace hf := hf.1 c6
    refine v_aload_n (i := 0) dJ27_node_35 rfl rfl ?_
    replace hf := gR_e hf
    obtain ⟨w8, fs9, r7, hh10, hk11, hf⟩ := hf
    refine v_getf (T := TJ27) (ci := 19) 3 dJ27_node_36 q877 rfl in_J27 (Nat.le_of_ble_eq_true rfl) (Or.inl rfl) hh10 hk11 ?_
    refine v_qstore_n (i := 2) (r := r7) (lv' := [(0, .ref a0), (1, .int i_1), (2, va_rf r7)]) dJ27_node_39 rfl (Nat.le_of_ble_eq_true rfl) rfl rfl ?_
    refine v_aload_n (i := 0) dJ27_node_40 rfl rfl ?_
    replace hf := gI_e hf
    obtain ⟨w13, fs14, i12, hh15, hk16, hf⟩ := hf
    refine v_getf (T := TJ27) (ci := 19) 1 dJ27_node_41 q875 rfl in_J27 (Nat.le_of_ble_eq_true rfl) (Or.inl rfl) hh15 hk16 ?_
    refine v_iconst (v := 1) dJ27_node_44 (by decide) ?_
    refine v_isub dJ27_node_45 ?_
    refine v_istore_n (i := 3) (lv' := [(0, .ref a0), (1, .int i_1), (2, va_rf r7), (3, .int (i12 - (1 : Int32)))]) dJ27_node_46 rfl (Nat.le_of_ble_eq_true rfl) rfl rfl ?_
    refine V.lp (lv' := [(1, .int i_1), (2, va_rf r7), (3, .int (i12 - (1 : Int32)))]) [1, 2, 3] rfl ?_
    exact V.weak hf (by omega) (by omega)
  · replace hf := hf.2 c6
    refine v_aload_n (i := 0) dJ27_node_10 rfl rfl ?_
    replace hf := gR_e hf
    obtain ⟨w18, fs19, r17, hh20, hk21, hf⟩ := hf
    refine v_getf (T := TJ27) (ci := 19) 2 dJ27_node_11 q876 rfl in_J27 (Nat.le_of_ble_eq_true rfl) (Or.inl rfl) hh20 hk21 ?_
    refine v_qstore_n (i := 2) (r := r17) (lv' := [(0, .ref a0), (1, .int i_1), (2, va_rf r17)]) dJ27_node_14 rfl (Nat.le_of_ble_eq_true rfl) rfl rfl ?_
    refine v_iconst (v := 0) dJ27_node_15 (by decide) ?_
    refine v_istore_n (i := 3) (lv' := [(0, .ref a0), (1, .int i_1), (2, va_rf r17), (3, .int (0 : Int32))]) dJ27_node_16 rfl (Nat.le_of_ble_eq_true rfl) rfl rfl ?_
    refine V.lp (lv' := [(1, .int i_1), (2, va_rf r17), (3, .int (0 : Int32))]) [1, 2, 3] rfl ?_
    exact V.weak hf (by omega) (by omega)
def g_J27_node_17 (G : Gt) (E : Ev) (h : Hp) (k n : Nat) (i_1 : Int32) (r_2 : Option Nat) (i_3 : Int32) (K : Option Nat → Hp → Prop) : Prop :=
((i_1 ≤ i_3 → K r_2 h) ∧
(¬ (i_1 ≤ i_3) → gR h r_2 20 1 fun r2 =>
V G E Y_J27_node cJ27_node 4 (QM G E (kR K) xN) h k n 17 [(1, .int i_1), (2, va_rf r2), (3, .int (i_3 + (1 : Int32)))] []))
theorem s_J27_node_17 {G : Gt} {E : Ev} {h : Hp} {k0 n0 : Nat} {i_1 : Int32} {r_2 : Option Nat} {i_3 : Int32} {K : Option Nat → Hp → Prop} (hG : Base G) (hA : 0 ≤ k0) (hB : 0 ≤ n0) (hf : g_J27_node_17 G E h (k0 - 0) (n0 - 0) i_1 r_2 i_3 K) : V G E Y_J27_node cJ27_node 4 (QM G E (kR K) xN) h k0 n0 17 [(1, .int i_1), (2, va_rf r_2), (3, .int i_3)] [] := by
  obtain ⟨k, hk9⟩ : ∃ z, z = k0 - 0 := ⟨_, rfl⟩
  obtain ⟨n, hn9⟩ : ∃ z, z = n0 - 0 := ⟨_, rfl⟩
  rw [← hk9, ← hn9] at hf
  refine V.weak (k' := k + 0) (n' := n + 0) ?_ (by omega) (by omega)
  unfold g_J27_node_17 at hf
  refine v_iload_n (i := 3) dJ27_node_17 rfl rfl ?_
  refine v_iload_n (i := 1) dJ27_node_18 rfl rfl ?_
  refine v_icmp_ge 33 dJ27_node_19 (by decide) (fun c1 => ?_) (fun c1 => ?_)
  · replace hf := hf.1 c1
    refine v_qload_n (r := r_2) (i := 2) dJ27_node_33 rfl rfl ?_
    exact v_qret (r := r_2) dJ27_node_34 rfl (Or.inl ⟨_, rfl⟩) ⟨_, rfl, hf⟩
  · replace hf := hf.2 c1
    refine v_qload_n (r := r_2) (i := 2) dJ27_node_22 rfl rfl ?_
    obtain ⟨a3, rfl⟩ := gR_s hf
    replace hf := gR_e hf
    obtain ⟨w4, fs5, r2, hh6, hk7, hf⟩ := hf
    refine v_getf (T := TJ28) (ci := 20) 1 dJ27_node_23 q918 rfl in_J28 (Nat.le_of_ble_eq_true rfl) (Or.inl rfl) hh6 hk7 ?_
    refine v_qstore_n (i := 2) (r := r2) (lv' := [(1, .int i_1), (2, va_rf r2), (3, .int i_3)]) dJ27_node_26 rfl (Nat.le_of_ble_eq_true rfl) rfl rfl ?_
    refine v_iinc (i := 3) (v := i_3 + (1 : Int32)) (lv' := [(1, .int i_1), (2, va_rf r2), (3, .int (i_3 + (1 : Int32)))]) dJ27_node_27 rfl rfl (Nat.le_of_ble_eq_true rfl) rfl rfl ?_
    refine v_goto 17 dJ27_node_30 (by decide) ?_
    exact V.weak hf (by omega) (by omega)
def g_J27_node_47 (G : Gt) (E : Ev) (h : Hp) (k n : Nat) (i_1 : Int32) (r_2 : Option Nat) (i_3 : Int32) (K : Option Nat → Hp → Prop) : Prop :=
((i_3 ≤ i_1 → K r_2 h) ∧
(¬ (i_3 ≤ i_1) → gR h r_2 20 2 fun r2 =>
V G E Y_J27_node cJ27_node 4 (QM G E (kR K) xN) h k n 47 [(1, .int i_1), (2, va_rf r2), (3, .int (i_3 + (-1 : Int32)))] []))
theorem s_J27_node_47 {G : Gt} {E : Ev} {h : Hp} {k0 n0 : Nat} {i_1 : Int32} {r_2 : Option Nat} {i_3 : Int32} {K : Option Nat → Hp → Prop} (hG : Base G) (hA : 0 ≤ k0) (hB : 0 ≤ n0) (hf : g_J27_node_47 G E h (k0 - 0) (n0 - 0) i_1 r_2 i_3 K) : V G E Y_J27_node cJ27_node 4 (QM G E (kR K) xN) h k0 n0 47 [(1, .int i_1), (2, va_rf r_2), (3, .int i_3)] [] := by
  obtain ⟨k, hk9⟩ : ∃ z, z = k0 - 0 := ⟨_, rfl⟩
  obtain ⟨n, hn9⟩ : ∃ z, z = n0 - 0 := ⟨_, rfl⟩
  rw [← hk9, ← hn9] at hf
  refine V.weak (k' := k + 0) (n' := n + 0) ?_ (by omega) (by omega)
  unfold g_J27_node_47 at hf
  refine v_iload_n (i := 3) dJ27_node_47 rfl rfl ?_
  refine v_iload_n (i := 1) dJ27_node_48 rfl rfl ?_
  refine v_icmp_le 63 dJ27_node_49 (by decide) (fun c1 => ?_) (fun c1 => ?_)
  · replace hf := hf.1 c1
    refine v_qload_n (r := r_2) (i := 2) dJ27_node_63 rfl rfl ?_
    exact v_qret (r := r_2) dJ27_node_64 rfl (Or.inl ⟨_, rfl⟩) ⟨_, rfl, hf⟩
  · replace hf := hf.2 c1
    refine v_qload_n (r := r_2) (i := 2) dJ27_node_52 rfl rfl ?_
    obtain ⟨a3, rfl⟩ := gR_s hf
    replace hf := gR_e hf
    obtain ⟨w4, fs5, r2, hh6, hk7, hf⟩ := hf
    refine v_getf (T := TJ28) (ci := 20) 2 dJ27_node_53 q920 rfl in_J28 (Nat.le_of_ble_eq_true rfl) (Or.inl rfl) hh6 hk7 ?_
    refine v_qstore_n (i := 2) (r := r2) (lv' := [(1, .int i_1), (2, va_rf r2), (3, .int i_3)]) dJ27_node_56 rfl (Nat.le_of_ble_eq_true rfl) rfl rfl ?_
    refine v_iinc (i := 3) (v := i_3 + (-1 : Int32)) (lv' := [(1, .int i_1), (2, va_rf r2), (3, .int (i_3 + (-1 : Int32)))]) dJ27_node_57 rfl rfl (Nat.le_of_ble_eq_true rfl) rfl rfl ?_
    refine v_goto 47 dJ27_node_60 (by decide) ?_
    exact V.weak hf (by omega) (by omega)
theorem b_J27_node {G : Gt} {h : Hp} {mc ms : Nat} {a0 : Nat} {i_1 : Int32} {K : Option Nat → Hp → Prop} (hG : Base G) (hf : ∀ E : Ev, V G E Y_J27_node cJ27_node 4 (QM G E (kR K) xN) h mc ms 0 [(0, .ref a0), (1, .int i_1)] []) : MM G Y_J27_node cJ27_node 4 mc ms [.ref a0, .int i_1] h (kR K) xN := mm_of hG (by decide +kernel) rfl (ac_c rfl (ac_c rfl ac_nil)) (Nat.le_of_ble_eq_true rfl) (fun E _ _ => hf E)
abbrev Y_J27_get : Yt := (yJ27_get, some (.object "java/lang/Object"), 3, 82, [])
def f_J27_get (G : Gt) (h : Hp) (k n : Nat) (t_0 : Option Nat) (i_1 : Int32) (K : Option Nat → Hp → Prop) : Prop :=
rv h t_0 19 (f_J27_checkElementIndex G h t_0 i_1 (fun h4 =>
rv h4 t_0 19 (dR G Y_J27_node cJ27_node 4 [va_rf t_0, .int i_1] h4 k n (fun r9 h8 k12 n13 =>
gR h8 r9 20 0 fun r14 =>
K r14 h8) xN)))
theorem m_J27_get {G : Gt} {h : Hp} {mc ms : Nat} {a0 : Nat} {i_1 : Int32} {K : Option Nat → Hp → Prop} (hG : Base G) (hA : 0 ≤ mc) (hB : 0 ≤ ms) (hf : f_J27_get G h (mc - 0) (ms - 0) (some a0) i_1 K) : MM G Y_J27_get cJ27_get 2 mc ms [.ref a0, .int i_1] h (kR K) xN := by
  refine mm_of hG (by decide +kernel) rfl (ac_c rfl (ac_c rfl ac_nil)) (Nat.le_of_ble_eq_true rfl) (fun E _ _ => ?_)
  obtain ⟨k, hk9⟩ : ∃ z, z = mc - 0 := ⟨_, rfl⟩
  obtain ⟨n, hn9⟩ : ∃ z, z = ms - 0 := ⟨_, rfl⟩
  rw [← hk9, ← hn9] at hf
  refine V.weak (k' := k + 0) (n' := n + 0) ?_ (by omega) (by omega)
  show V G E Y_J27_get cJ27_get 2 (QM G E (kR K) xN) h (k + 0) (n + 0) 0 [(0, .ref a0), (1, .int i_1)] []
  unfold f_J27_get at hf
  refine v_qload_n (r := (some a0)) (i := 0) dJ27_get_0 rfl rfl ?_
  refine v_iload_n (i := 1) dJ27_get_1 rfl rfl ?_
  replace hf := rv_e hf
  obtain ⟨w1, fs2, hh3, hf⟩ := hf
  refine V.addK0 ?_
  refine V.addN0 ?_
  refine v_callV (mc := 0) (ms := 0) 1 dJ27_get_2 (m_J27_checkElementIndex hG hf) rfl hh3 rfl (lw_V q1812 q1814 qs32 q122 q1815) rfl (by decide +kernel) (by decide) rfl (cat_len (Nat.le_of_ble_eq_true rfl)) (kk_V fun h4 hg => ?_) (fun _ _ _ hx => hx.elim)
  replace hf := hg
  clear hg
  refine v_qload_n (r := (some a0)) (i := 0) dJ27_get_5 rfl rfl ?_
  refine v_iload_n (i := 1) dJ27_get_6 rfl rfl ?_
  replace hf := rv_e hf
  obtain ⟨w5, fs6, hh7, hf⟩ := hf
  obtain ⟨mc10, ms11, hkmc10, hnms11, hM⟩ := hf
  refine V.weak (k' := ((k - mc10) + 0) + mc10) (n' := ((n - ms11) + 0) + ms11) ?_ (by omega) (by omega)
  refine v_callV 1 dJ27_get_7 hM rfl hh7 rfl (lw_V q1820 q1821 q1822 q122 q1823) rfl (by decide +kernel) (by decide) rfl (cat_len (Nat.le_of_ble_eq_true rfl)) (kk_R fun r9 h8 hg => ?_) (fun _ _ _ hx => hx.elim)
  have hf := hg
  clear hg
  obtain ⟨a15, rfl⟩ := gR_s hf
  replace hf := gR_e hf
  obtain ⟨w16, fs17, r14, hh18, hk19, hf⟩ := hf
  refine v_getf (T := TJ28) (ci := 20) 0 dJ27_get_10 q916 rfl in_J28 (Nat.le_of_ble_eq_true rfl) (Or.inl rfl) hh18 hk19 ?_
  exact v_qret (r := r14) dJ27_get_13 rfl (Or.inl ⟨_, rfl⟩) ⟨_, rfl, hf⟩
abbrev Y_J27_unlinkFirst : Yt := (yJ27_unlinkFirst, some (.object "java/lang/Object"), 1, 40, [])
def f_J27_unlinkFirst (G : Gt) (h : Hp) (t_0 : Option Nat) (r_1 : Option Nat) (K : Option Nat → Hp → Prop) : Prop :=
gR h r_1 20 0 fun r1 =>
gR h r_1 20 1 fun r7 =>
pF h r_1 20 0 (.null) fun h14 =>
pF h14 r_1 20 1 (.null) fun h17 =>
pF h17 t_0 19 2 (va_rf r7) fun h20 =>
((r7 = none → pF h20 t_0 19 3 (.null) fun h25 =>
gI h25 t_0 19 1 fun i26 =>
pF h25 t_0 19 1 (.int (i26 - (1 : Int32))) fun h33 =>
gI h33 t_0 19 0 fun i34 =>
pF h33 t_0 19 0 (.int (i34 + (1 : Int32))) fun h41 =>
K r1 h41) ∧
(∀ y21, r7 = some y21 → pF h20 r7 20 2 (.null) fun h44 =>
gI h44 t_0 19 1 fun i45 =>
pF h44 t_0 19 1 (.int (i45 - (1 : Int32))) fun h52 =>
gI h52 t_0 19 0 fun i53 =>
pF h52 t_0 19 0 (.int (i53 + (1 : Int32))) fun h60 =>
K r1 h60))
theorem m_J27_unlinkFirst {G : Gt} {h : Hp} {a0 : Nat} {r_1 : Option Nat} {K : Option Nat → Hp → Prop} (hG : Base G) (hf : f_J27_unlinkFirst G h (some a0) r_1 K) : MM G Y_J27_unlinkFirst cJ27_unlinkFirst 4 0 0 [.ref a0, va_rf r_1] h (kR K) xN := by
  refine mm_of hG (by decide +kernel) rfl (ac_c rfl (ac_c (rf_cat _) ac_nil)) (Nat.le_of_ble_eq_true rfl) (fun E _ _ => ?_)
  show V G E Y_J27_unlinkFirst cJ27_unlinkFirst 4 (QM G E (kR K) xN) h 0 0 0 [(0, .ref a0), (1, va_rf r_1)] []
  unfold f_J27_unlinkFirst at hf
  refine v_qload_n (r := r_1) (i := 1) dJ27_unlinkFirst_0 rfl rfl ?_
  obtain ⟨a2, rfl⟩ := gR_s hf
  replace hf := gR_e hf
  obtain ⟨w3, fs4, r1, hh5, hk6, hf⟩ := hf
  refine v_getf (T := TJ28) (ci := 20) 0 dJ27_unlinkFirst_1 q916 rfl in_J28 (Nat.le_of_ble_eq_true rfl) (Or.inl rfl) hh5 hk6 ?_
  refine v_qstore_n (i := 2) (r := r1) (lv' := [(0, va_rf (some a0)), (1, va_rf (some a2)), (2, va_rf r1)]) dJ27_unlinkFirst_4 rfl (Nat.le_of_ble_eq_true rfl) rfl rfl ?_
  refine v_qload_n (r := (some a2)) (i := 1) dJ27_unlinkFirst_5 rfl rfl ?_
  replace hf := gR_e hf
  obtain ⟨w8, fs9, r7, hh10, hk11, hf⟩ := hf
  refine v_getf (T := TJ28) (ci := 20) 1 dJ27_unlinkFirst_6 q918 rfl in_J28 (Nat.le_of_ble_eq_true rfl) (Or.inl rfl) hh10 hk11 ?_
  refine v_qstore_n (i := 3) (r := r7) (lv' := [(0, va_rf (some a0)), (1, va_rf (some a2)), (2, va_rf r1), (3, va_rf r7)]) dJ27_unlinkFirst_9 rfl (Nat.le_of_ble_eq_true rfl) rfl rfl ?_
  refine v_qload_n (r := (some a2)) (i := 1) dJ27_unlinkFirst_10 rfl rfl ?_
  refine v_null dJ27_unlinkFirst_11 ?_
  replace hf := pF_e hf
  obtain ⟨fs12, hh13, hf⟩ := hf
  refine v_putf (v := .null) (T := TJ28) (ci := 20) (ty := .object "java/lang/Object") 0 dJ27_unlinkFirst_12 q916 rfl in_J28 tyJ28 tyJ28_ok nmJ28 (Nat.le_of_ble_eq_true rfl) (Or.inl rfl) rfl (by decide +kernel) rfl rfl hh13 ?_
  obtain ⟨h14, eh14⟩ : ∃ z, z = hs h a2 (true, .inr (20, fs12.set 0 (.null))) := ⟨_, rfl⟩
  try rw [← eh14] at hf
  rw [← eh14]
  refine v_qload_n (r := (some a2)) (i := 1) dJ27_unlinkFirst_15 rfl rfl ?_
  refine v_null dJ27_unlinkFirst_16 ?_
  replace hf := pF_e hf
  obtain ⟨fs15, hh16, hf⟩ := hf
  refine v_putf (v := .null) (T := TJ28) (ci := 20) (ty := .object "java/util/LinkedList$Node") 1 dJ27_unlinkFirst_17 q918 rfl in_J28 tyJ28 tyJ28_ok nmJ28 (Nat.le_of_ble_eq_true rfl) (Or.inl rfl) rfl (by decide +kernel) rfl rfl hh16 ?_
  obtain ⟨h17, eh17⟩ : ∃ z, z = hs h14 a2 (true, .inr (20, fs15.set 1 (.null))) := ⟨_, rfl⟩
  try rw [← eh17] at hf
  rw [← eh17]
  refine v_qload_n (r := (some a0)) (i := 0) dJ27_unlinkFirst_20 rfl rfl ?_
  refine v_qload_n (r := r7) (i := 3) dJ27_unlinkFirst_21 rfl rfl ?_
  replace hf := pF_e hf
  obtain ⟨fs18, hh19, hf⟩ := hf
  refine v_putf (v := va_rf r7) (T := TJ27) (ci := 19) (ty := .object "java/util/LinkedList$Node") 2 dJ27_unlinkFirst_22 q876 rfl in_J27 tyJ27 tyJ27_ok nmJ27 (Nat.le_of_ble_eq_true rfl) (Or.inl rfl) rfl (by decide +kernel) (rf_nar _ _) (rf_fit _ _) hh19 ?_
  obtain ⟨h20, eh20⟩ : ∃ z, z = hs h17 a0 (true, .inr (19, fs18.set 2 (va_rf r7))) := ⟨_, rfl⟩
  try rw [← eh20] at hf
  rw [← eh20]
  refine v_qload_n (r := r7) (i := 3) dJ27_unlinkFirst_25 rfl rfl ?_
  refine v_ifnonnull 37 dJ27_unlinkFirst_26 (by decide) (fun y21 e22 => ?_) (fun e22 => ?_)
  · replace hf := hf.2 y21 e22
    subst e22
    refine v_qload_n (r := (some y21)) (i := 3) dJ27_unlinkFirst_37 rfl rfl ?_
    refine v_null dJ27_unlinkFirst_38 ?_
    replace hf := pF_e hf
    obtain ⟨fs42, hh43, hf⟩ := hf
    refine v_putf (v := .null) (T := TJ28) (ci := 20) (ty := .object "java/util/LinkedList$Node") 2 dJ27_unlinkFirst_39 q920 rfl in_J28 tyJ28 tyJ28_ok nmJ28 (Nat.le_of_ble_eq_true rfl) (Or.inl rfl) rfl (by decide +kernel) rfl rfl hh43 ?_
    obtain ⟨h44, eh44⟩ : ∃ z, z = hs h20 y21 (true, .inr (20, fs42.set 2 (.null))) := ⟨_, rfl⟩
    try rw [← eh44] at hf
    rw [← eh44]
    refine v_qload_n (r := (some a0)) (i := 0) dJ27_unlinkFirst_42 rfl rfl ?_
    refine v_dup dJ27_unlinkFirst_43 (rf_cat _) ?_
    replace hf := gI_e hf
    obtain ⟨w46, fs47, i45, hh48, hk49, hf⟩ := hf
    refine v_getf (T := TJ27) (ci := 19) 1 dJ27_unlinkFirst_44 q875 rfl in_J27 (Nat.le_of_ble_eq_true rfl) (Or.inl rfl) hh48 hk49 ?_
    refine v_iconst (v := 1) dJ27_unlinkFirst_47 (by decide) ?_
    refine v_isub dJ27_unlinkFirst_48 ?_
    replace hf := pF_e hf
    obtain ⟨fs50, hh51, hf⟩ := hf
    refine v_putf (v := .int (i45 - (1 : Int32))) (T := TJ27) (ci := 19) (ty := .int) 1 dJ27_unlinkFirst_49 q875 rfl in_J27 tyJ27 tyJ27_ok nmJ27 (Nat.le_of_ble_eq_true rfl) (Or.inl rfl) rfl (by decide +kernel) rfl rfl hh51 ?_
    obtain ⟨h52, eh52⟩ : ∃ z, z = hs h44 a0 (true, .inr (19, fs50.set 1 (.int (i45 - (1 : Int32))))) := ⟨_, rfl⟩
    try rw [← eh52] at hf
    rw [← eh52]
    refine v_qload_n (r := (some a0)) (i := 0) dJ27_unlinkFirst_52 rfl rfl ?_
    refine v_dup dJ27_unlinkFirst_53 (rf_cat _) ?_
    replace hf := gI_e hf
    obtain ⟨w54, fs55, i53, hh56, hk57, hf⟩ := hf
    refine v_getf (T := TJ27) (ci := 19) 0 dJ27_unlinkFirst_54 q178 rfl in_J27 (Nat.le_of_ble_eq_true rfl) (Or.inr q179) hh56 hk57 ?_
    refine v_iconst (v := 1) dJ27_unlinkFirst_57 (by decide) ?_
    refine v_iadd dJ27_unlinkFirst_58 ?_
    replace hf := pF_e hf
    obtain ⟨fs58, hh59, hf⟩ := hf
    refine v_putf (v := .int (i53 + (1 : Int32))) (T := TJ27) (ci := 19) (ty := .int) 0 dJ27_unlinkFirst_59 q178 rfl in_J27 tyJ27 tyJ27_ok nmJ27 (Nat.le_of_ble_eq_true rfl) (Or.inr q179) rfl (by decide +kernel) rfl rfl hh59 ?_
    obtain ⟨h60, eh60⟩ : ∃ z, z = hs h52 a0 (true, .inr (19, fs58.set 0 (.int (i53 + (1 : Int32))))) := ⟨_, rfl⟩
    try rw [← eh60] at hf
    rw [← eh60]
    refine v_qload_n (r := r1) (i := 2) dJ27_unlinkFirst_62 rfl rfl ?_
    exact v_qret (r := r1) dJ27_unlinkFirst_63 rfl (Or.inl ⟨_, rfl⟩) ⟨_, rfl, hf⟩
  · replace hf := hf.1 e22
    subst e22
    refine v_qload_n (r := (some a0)) (i := 0) dJ27_unlinkFirst_29 rfl rfl ?_
    refine v_null dJ27_unlinkFirst_30 ?_
    replace hf := pF_e hf
    obtain ⟨fs23, hh24, hf⟩ := hf
    refine v_putf (v := .null) (T := TJ27) (ci := 19) (ty := .object "java/util/LinkedList$Node") 3 dJ27_unlinkFirst_31 q877 rfl in_J27 tyJ27 tyJ27_ok nmJ27 (Nat.le_of_ble_eq_true rfl) (Or.inl rfl) rfl (by decide +kernel) rfl rfl hh24 ?_
    obtain ⟨h25, eh25⟩ : ∃ z, z = hs h20 a0 (true, .inr (19, fs23.set 3 (.null))) := ⟨_, rfl⟩
    try rw [← eh25] at hf
    rw [← eh25]
    refine v_goto 42 dJ27_unlinkFirst_34 (by decide) ?_
    refine v_qload_n (r := (some a0)) (i := 0) dJ27_unlinkFirst_42 rfl rfl ?_
    refine v_dup dJ27_unlinkFirst_43 (rf_cat _) ?_
    replace hf := gI_e hf
    obtain ⟨w27, fs28, i26, hh29, hk30, hf⟩ := hf
    refine v_getf (T := TJ27) (ci := 19) 1 dJ27_unlinkFirst_44 q875 rfl in_J27 (Nat.le_of_ble_eq_true rfl) (Or.inl rfl) hh29 hk30 ?_
    refine v_iconst (v := 1) dJ27_unlinkFirst_47 (by decide) ?_
    refine v_isub dJ27_unlinkFirst_48 ?_
    replace hf := pF_e hf
    obtain ⟨fs31, hh32, hf⟩ := hf
    refine v_putf (v := .int (i26 - (1 : Int32))) (T := TJ27) (ci := 19) (ty := .int) 1 dJ27_unlinkFirst_49 q875 rfl in_J27 tyJ27 tyJ27_ok nmJ27 (Nat.le_of_ble_eq_true rfl) (Or.inl rfl) rfl (by decide +kernel) rfl rfl hh32 ?_
    obtain ⟨h33, eh33⟩ : ∃ z, z = hs h25 a0 (true, .inr (19, fs31.set 1 (.int (i26 - (1 : Int32))))) := ⟨_, rfl⟩
    try rw [← eh33] at hf
    rw [← eh33]
    refine v_qload_n (r := (some a0)) (i := 0) dJ27_unlinkFirst_52 rfl rfl ?_
    refine v_dup dJ27_unlinkFirst_53 (rf_cat _) ?_
    replace hf := gI_e hf
    obtain ⟨w35, fs36, i34, hh37, hk38, hf⟩ := hf
    refine v_getf (T := TJ27) (ci := 19) 0 dJ27_unlinkFirst_54 q178 rfl in_J27 (Nat.le_of_ble_eq_true rfl) (Or.inr q179) hh37 hk38 ?_
    refine v_iconst (v := 1) dJ27_unlinkFirst_57 (by decide) ?_
    refine v_iadd dJ27_unlinkFirst_58 ?_
    replace hf := pF_e hf
    obtain ⟨fs39, hh40, hf⟩ := hf
    refine v_putf (v := .int (i34 + (1 : Int32))) (T := TJ27) (ci := 19) (ty := .int) 0 dJ27_unlinkFirst_59 q178 rfl in_J27 tyJ27 tyJ27_ok nmJ27 (Nat.le_of_ble_eq_true rfl) (Or.inr q179) rfl (by decide +kernel) rfl rfl hh40 ?_
    obtain ⟨h41, eh41⟩ : ∃ z, z = hs h33 a0 (true, .inr (19, fs39.set 0 (.int (i34 + (1 : Int32))))) := ⟨_, rfl⟩
    try rw [← eh41] at hf
    rw [← eh41]
    refine v_qload_n (r := r1) (i := 2) dJ27_unlinkFirst_62 rfl rfl ?_
    exact v_qret (r := r1) dJ27_unlinkFirst_63 rfl (Or.inl ⟨_, rfl⟩) ⟨_, rfl, hf⟩
abbrev Y_J27_removeFirst : Yt := (yJ27_removeFirst, some (.object "java/lang/Object"), 2, 63, [])
def f_J27_removeFirst (G : Gt) (h : Hp) (t_0 : Option Nat) (K : Option Nat → Hp → Prop) : Prop :=
gR h t_0 19 2 fun r1 =>
((r1 = none → False) ∧
(∀ y6, r1 = some y6 → rv h t_0 19 (f_J27_unlinkFirst G h t_0 r1 (fun r12 h11 =>
K r12 h11))))
theorem m_J27_removeFirst {G : Gt} {h : Hp} {a0 : Nat} {K : Option Nat → Hp → Prop} (hG : Base G) (hf : f_J27_removeFirst G h (some a0) K) : MM G Y_J27_removeFirst cJ27_removeFirst 2 0 0 [.ref a0] h (kR K) xN := by
  refine mm_of hG (by decide +kernel) rfl (ac_c rfl ac_nil) (Nat.le_of_ble_eq_true rfl) (fun E _ _ => ?_)
  show V G E Y_J27_removeFirst cJ27_removeFirst 2 (QM G E (kR K) xN) h 0 0 0 [(0, .ref a0)] []
  unfold f_J27_removeFirst at hf
  refine v_qload_n (r := (some a0)) (i := 0) dJ27_removeFirst_0 rfl rfl ?_
  replace hf := gR_e hf
  obtain ⟨w2, fs3, r1, hh4, hk5, hf⟩ := hf
  refine v_getf (T := TJ27) (ci := 19) 2 dJ27_removeFirst_1 q876 rfl in_J27 (Nat.le_of_ble_eq_true rfl) (Or.inl rfl) hh4 hk5 ?_
  refine v_qstore_n (i := 1) (r := r1) (lv' := [(0, va_rf (some a0)), (1, va_rf r1)]) dJ27_removeFirst_4 rfl (Nat.le_of_ble_eq_true rfl) rfl rfl ?_
  refine v_qload_n (r := r1) (i := 1) dJ27_removeFirst_5 rfl rfl ?_
  refine v_ifnonnull 17 dJ27_removeFirst_6 (by decide) (fun y6 e7 => ?_) (fun e7 => ?_)
  · replace hf := hf.2 y6 e7
    subst e7
    refine v_qload_n (r := (some a0)) (i := 0) dJ27_removeFirst_17 rfl rfl ?_
    refine v_qload_n (r := (some y6)) (i := 1) dJ27_removeFirst_18 rfl rfl ?_
    replace hf := rv_e hf
    obtain ⟨w8, fs9, hh10, hf⟩ := hf
    refine V.addK0 ?_
    refine V.addN0 ?_
    refine v_callV (mc := 0) (ms := 0) 1 dJ27_removeFirst_19 (m_J27_unlinkFirst hG hf) rfl hh10 rfl (lw_V q960 q962 qs11 q122 q963) rfl (by decide +kernel) (by decide) rfl (cat_len (Nat.le_of_ble_eq_true rfl)) (kk_R fun r12 h11 hg => ?_) (fun _ _ _ hx => hx.elim)
    replace hf := hg
    clear hg
    exact v_qret (r := r12) dJ27_removeFirst_22 rfl (Or.inl ⟨_, rfl⟩) ⟨_, rfl, hf⟩
  · replace hf := hf.1 e7
    subst e7
    exact hf.elim
abbrev Y_J28_init : Yt := (yJ28_init, none, 1, 40, [])
def f_J28_init (G : Gt) (h : Hp) (t_0 : Option Nat) (r_1 : Option Nat) (r_2 : Option Nat) (r_3 : Option Nat) (K : Hp → Prop) : Prop :=
pF h t_0 20 0 (va_rf r_2) fun h3 =>
pF h3 t_0 20 1 (va_rf r_3) fun h6 =>
pF h6 t_0 20 2 (va_rf r_1) fun h9 =>
K h9
theorem m_J28_init {G : Gt} {h : Hp} {a0 : Nat} {r_1 : Option Nat} {r_2 : Option Nat} {r_3 : Option Nat} {K : Hp → Prop} (hG : Base G) (hf : f_J28_init G h (some a0) r_1 r_2 r_3 K) : MM G Y_J28_init cJ28_init 4 0 0 [.ref a0, va_rf r_1, va_rf r_2, va_rf r_3] h (kV K) xN := by
  refine mm_of hG (by decide +kernel) rfl (ac_c rfl (ac_c (rf_cat _) (ac_c (rf_cat _) (ac_c (rf_cat _) ac_nil)))) (Nat.le_of_ble_eq_true rfl) (fun E _ _ => ?_)
  show V G E Y_J28_init cJ28_init 4 (QM G E (kV K) xN) h 0 0 0 [(0, .ref a0), (1, va_rf r_1), (2, va_rf r_2), (3, va_rf r_3)] []
  unfold f_J28_init at hf
  refine v_qload_n (r := (some a0)) (i := 0) dJ28_init_0 rfl rfl ?_
  refine v_objInit dJ28_init_1 q914 q153 q154 (cat_len (Nat.le_of_ble_eq_true rfl)) (Nat.le_of_ble_eq_true rfl) (Nat.le_of_ble_eq_true rfl) ?_
  refine v_qload_n (r := (some a0)) (i := 0) dJ28_init_4 rfl rfl ?_
  refine v_qload_n (r := r_2) (i := 2) dJ28_init_5 rfl rfl ?_
  replace hf := pF_e hf
  obtain ⟨fs1, hh2, hf⟩ := hf
  refine v_putf (v := va_rf r_2) (T := TJ28) (ci := 20) (ty := .object "java/lang/Object") 0 dJ28_init_6 q915 rfl in_J28 tyJ28 tyJ28_ok nmJ28 (Nat.le_of_ble_eq_true rfl) (Or.inl rfl) rfl (by decide +kernel) (rf_nar _ _) (rf_fit _ _) hh2 ?_
  obtain ⟨h3, eh3⟩ : ∃ z, z = hs h a0 (true, .inr (20, fs1.set 0 (va_rf r_2))) := ⟨_, rfl⟩
  try rw [← eh3] at hf
  rw [← eh3]
  refine v_qload_n (r := (some a0)) (i := 0) dJ28_init_9 rfl rfl ?_
  refine v_qload_n (r := r_3) (i := 3) dJ28_init_10 rfl rfl ?_
  replace hf := pF_e hf
  obtain ⟨fs4, hh5, hf⟩ := hf
  refine v_putf (v := va_rf r_3) (T := TJ28) (ci := 20) (ty := .object "java/util/LinkedList$Node") 1 dJ28_init_11 q917 rfl in_J28 tyJ28 tyJ28_ok nmJ28 (Nat.le_of_ble_eq_true rfl) (Or.inl rfl) rfl (by decide +kernel) (rf_nar _ _) (rf_fit _ _) hh5 ?_
  obtain ⟨h6, eh6⟩ : ∃ z, z = hs h3 a0 (true, .inr (20, fs4.set 1 (va_rf r_3))) := ⟨_, rfl⟩
  try rw [← eh6] at hf
  rw [← eh6]
  refine v_qload_n (r := (some a0)) (i := 0) dJ28_init_14 rfl rfl ?_
  refine v_qload_n (r := r_1) (i := 1) dJ28_init_15 rfl rfl ?_
  replace hf := pF_e hf
  obtain ⟨fs7, hh8, hf⟩ := hf
  refine v_putf (v := va_rf r_1) (T := TJ28) (ci := 20) (ty := .object "java/util/LinkedList$Node") 2 dJ28_init_16 q919 rfl in_J28 tyJ28 tyJ28_ok nmJ28 (Nat.le_of_ble_eq_true rfl) (Or.inl rfl) rfl (by decide +kernel) (rf_nar _ _) (rf_fit _ _) hh8 ?_
  obtain ⟨h9, eh9⟩ : ∃ z, z = hs h6 a0 (true, .inr (20, fs7.set 2 (va_rf r_1))) := ⟨_, rfl⟩
  try rw [← eh9] at hf
  rw [← eh9]
  exact v_vret dJ28_init_19 rfl ⟨rfl, hf⟩
abbrev Y_J27_linkLast : Yt := (yJ27_linkLast, none, 2, 63, [])
def f_J27_linkLast (G : Gt) (h : Hp) (t_0 : Option Nat) (r_1 : Option Nat) (K : Hp → Prop) : Prop :=
gR h t_0 19 3 fun r1 =>
nO h 20 [.null, .null, .null] fun a6 h7 =>
f_J28_init G h7 (some a6) r1 r_1 none (fun h8 =>
pF h8 t_0 19 3 (.ref a6) fun h11 =>
((r1 = none → pF h11 t_0 19 2 (.ref a6) fun h16 =>
gI h16 t_0 19 1 fun i17 =>
pF h16 t_0 19 1 (.int (i17 + (1 : Int32))) fun h24 =>
gI h24 t_0 19 0 fun i25 =>
pF h24 t_0 19 0 (.int (i25 + (1 : Int32))) fun h32 =>
K h32) ∧
(∀ y12, r1 = some y12 → pF h11 r1 20 1 (.ref a6) fun h35 =>
gI h35 t_0 19 1 fun i36 =>
pF h35 t_0 19 1 (.int (i36 + (1 : Int32))) fun h43 =>
gI h43 t_0 19 0 fun i44 =>
pF h43 t_0 19 0 (.int (i44 + (1 : Int32))) fun h51 =>
K h51)))
theorem m_J27_linkLast {G : Gt} {h : Hp} {a0 : Nat} {r_1 : Option Nat} {K : Hp → Prop} (hG : Base G) (hf : f_J27_linkLast G h (some a0) r_1 K) : MM G Y_J27_linkLast cJ27_linkLast 4 1 3 [.ref a0, va_rf r_1] h (kV K) xN := by
  refine mm_of hG (by decide +kernel) rfl (ac_c rfl (ac_c (rf_cat _) ac_nil)) (Nat.le_of_ble_eq_true rfl) (fun E _ _ => ?_)
  show V G E Y_J27_linkLast cJ27_linkLast 4 (QM G E (kV K) xN) h 1 3 0 [(0, .ref a0), (1, va_rf r_1)] []
  unfold f_J27_linkLast at hf
  refine v_qload_n (r := (some a0)) (i := 0) dJ27_linkLast_0 rfl rfl ?_
  replace hf := gR_e hf
  obtain ⟨w2, fs3, r1, hh4, hk5, hf⟩ := hf
  refine v_getf (T := TJ27) (ci := 19) 3 dJ27_linkLast_1 q877 rfl in_J27 (Nat.le_of_ble_eq_true rfl) (Or.inl rfl) hh4 hk5 ?_
  refine v_qstore_n (i := 2) (r := r1) (lv' := [(0, va_rf (some a0)), (1, va_rf r_1), (2, va_rf r1)]) dJ27_linkLast_4 rfl (Nat.le_of_ble_eq_true rfl) rfl rfl ?_
  refine v_new (N := 3) (fs := [.null, .null, .null]) (ci := 20) dJ27_linkLast_5 q909 q910 q124 rfl in_J28 tyJ28 tyJ28_ok rfl (fun a6 ha6 => ?_)
  replace hf := hf a6 ha6
  obtain ⟨h7, eh7⟩ : ∃ z, z = hs h a6 (true, .inr (20, [.null, .null, .null])) := ⟨_, rfl⟩
  try rw [← eh7] at hf
  rw [← eh7]
  refine v_dup dJ27_linkLast_8 rfl ?_
  refine v_qload_n (r := r1) (i := 2) dJ27_linkLast_9 rfl rfl ?_
  refine v_qload_n (r := r_1) (i := 1) dJ27_linkLast_10 rfl rfl ?_
  refine v_null dJ27_linkLast_11 ?_
  refine V.addK0 ?_
  refine V.addN0 ?_
  refine v_callI (mc := 0) (ms := 0) 3 dJ27_linkLast_12 (m_J28_init hG hf) rfl (lw_meth q913) rfl q124 q911 q912 rfl rfl (by decide +kernel) (by decide) rfl (cat_len (Nat.le_of_ble_eq_true rfl)) (kk_V fun h8 hg => ?_) (fun _ _ _ hx => hx.elim)
  replace hf := hg
  clear hg
  refine v_astore_n (i := 3) (lv' := [(0, va_rf (some a0)), (1, va_rf r_1), (2, va_rf r1), (3, .ref a6)]) dJ27_linkLast_15 rfl (Nat.le_of_ble_eq_true rfl) rfl rfl ?_
  refine v_qload_n (r := (some a0)) (i := 0) dJ27_linkLast_16 rfl rfl ?_
  refine v_aload_n (i := 3) dJ27_linkLast_17 rfl rfl ?_
  replace hf := pF_e hf
  obtain ⟨fs9, hh10, hf⟩ := hf
  refine v_putf (v := .ref a6) (T := TJ27) (ci := 19) (ty := .object "java/util/LinkedList$Node") 3 dJ27_linkLast_18 q877 rfl in_J27 tyJ27 tyJ27_ok nmJ27 (Nat.le_of_ble_eq_true rfl) (Or.inl rfl) rfl (by decide +kernel) rfl rfl hh10 ?_
  obtain ⟨h11, eh11⟩ : ∃ z, z = hs h8 a0 (true, .inr (19, fs9.set 3 (.ref a6))) := ⟨_, rfl⟩
  try rw [← eh11] at hf
  rw [← eh11]
  refine v_qload_n (r := r1) (i := 2) dJ27_linkLast_21 rfl rfl ?_
  refine v_ifnonnull 33 dJ27_linkLast_22 (by decide) (fun y12 e13 => ?_) (fun e13 => ?_)
  · replace hf := hf.2 y12 e13
    subst e13
    refine v_qload_n (r := (some y12)) (i := 2) dJ27_linkLast_33 rfl rfl ?_
    refine v_aload_n (i := 3) dJ27_linkLast_34 rfl rfl ?_
    replace hf := pF_e hf
    obtain ⟨fs33, hh34, hf⟩ := hf
    refine v_putf (v := .ref a6) (T := TJ28) (ci := 20) (ty := .object "java/util/LinkedList$Node") 1 dJ27_linkLast_35 q918 rfl in_J28 tyJ28 tyJ28_ok nmJ28 (Nat.le_of_ble_eq_true rfl) (Or.inl rfl) rfl (by decide +kernel) rfl rfl hh34 ?_
    obtain ⟨h35, eh35⟩ : ∃ z, z = hs h11 y12 (true, .inr (20, fs33.set 1 (.ref a6))) := ⟨_, rfl⟩
    try rw [← eh35] at hf
    rw [← eh35]
    refine v_qload_n (r := (some a0)) (i := 0) dJ27_linkLast_38 rfl rfl ?_
    refine v_dup dJ27_linkLast_39 (rf_cat _) ?_
    replace hf := gI_e hf
    obtain ⟨w37, fs38, i36, hh39, hk40, hf⟩ := hf
    refine v_getf (T := TJ27) (ci := 19) 1 dJ27_linkLast_40 q875 rfl in_J27 (Nat.le_of_ble_eq_true rfl) (Or.inl rfl) hh39 hk40 ?_
    refine v_iconst (v := 1) dJ27_linkLast_43 (by decide) ?_
    refine v_iadd dJ27_linkLast_44 ?_
    replace hf := pF_e hf
    obtain ⟨fs41, hh42, hf⟩ := hf
    refine v_putf (v := .int (i36 + (1 : Int32))) (T := TJ27) (ci := 19) (ty := .int) 1 dJ27_linkLast_45 q875 rfl in_J27 tyJ27 tyJ27_ok nmJ27 (Nat.le_of_ble_eq_true rfl) (Or.inl rfl) rfl (by decide +kernel) rfl rfl hh42 ?_
    obtain ⟨h43, eh43⟩ : ∃ z, z = hs h35 a0 (true, .inr (19, fs41.set 1 (.int (i36 + (1 : Int32))))) := ⟨_, rfl⟩
    try rw [← eh43] at hf
    rw [← eh43]
    refine v_qload_n (r := (some a0)) (i := 0) dJ27_linkLast_48 rfl rfl ?_
    refine v_dup dJ27_linkLast_49 (rf_cat _) ?_
    replace hf := gI_e hf
    obtain ⟨w45, fs46, i44, hh47, hk48, hf⟩ := hf
    refine v_getf (T := TJ27) (ci := 19) 0 dJ27_linkLast_50 q178 rfl in_J27 (Nat.le_of_ble_eq_true rfl) (Or.inr q179) hh47 hk48 ?_
    refine v_iconst (v := 1) dJ27_linkLast_53 (by decide) ?_
    refine v_iadd dJ27_linkLast_54 ?_
    replace hf := pF_e hf
    obtain ⟨fs49, hh50, hf⟩ := hf
    refine v_putf (v := .int (i44 + (1 : Int32))) (T := TJ27) (ci := 19) (ty := .int) 0 dJ27_linkLast_55 q178 rfl in_J27 tyJ27 tyJ27_ok nmJ27 (Nat.le_of_ble_eq_true rfl) (Or.inr q179) rfl (by decide +kernel) rfl rfl hh50 ?_
    obtain ⟨h51, eh51⟩ : ∃ z, z = hs h43 a0 (true, .inr (19, fs49.set 0 (.int (i44 + (1 : Int32))))) := ⟨_, rfl⟩
    try rw [← eh51] at hf
    rw [← eh51]
    exact v_vret dJ27_linkLast_58 rfl ⟨rfl, hf⟩
  · replace hf := hf.1 e13
    subst e13
    refine v_qload_n (r := (some a0)) (i := 0) dJ27_linkLast_25 rfl rfl ?_
    refine v_aload_n (i := 3) dJ27_linkLast_26 rfl rfl ?_
    replace hf := pF_e hf
    obtain ⟨fs14, hh15, hf⟩ := hf
    refine v_putf (v := .ref a6) (T := TJ27) (ci := 19) (ty := .object "java/util/LinkedList$Node") 2 dJ27_linkLast_27 q876 rfl in_J27 tyJ27 tyJ27_ok nmJ27 (Nat.le_of_ble_eq_true rfl) (Or.inl rfl) rfl (by decide +kernel) rfl rfl hh15 ?_
    obtain ⟨h16, eh16⟩ : ∃ z, z = hs h11 a0 (true, .inr (19, fs14.set 2 (.ref a6))) := ⟨_, rfl⟩
    try rw [← eh16] at hf
    rw [← eh16]
    refine v_goto 38 dJ27_linkLast_30 (by decide) ?_
    refine v_qload_n (r := (some a0)) (i := 0) dJ27_linkLast_38 rfl rfl ?_
    refine v_dup dJ27_linkLast_39 (rf_cat _) ?_
    replace hf := gI_e hf
    obtain ⟨w18, fs19, i17, hh20, hk21, hf⟩ := hf
    refine v_getf (T := TJ27) (ci := 19) 1 dJ27_linkLast_40 q875 rfl in_J27 (Nat.le_of_ble_eq_true rfl) (Or.inl rfl) hh20 hk21 ?_
    refine v_iconst (v := 1) dJ27_linkLast_43 (by decide) ?_
    refine v_iadd dJ27_linkLast_44 ?_
    replace hf := pF_e hf
    obtain ⟨fs22, hh23, hf⟩ := hf
    refine v_putf (v := .int (i17 + (1 : Int32))) (T := TJ27) (ci := 19) (ty := .int) 1 dJ27_linkLast_45 q875 rfl in_J27 tyJ27 tyJ27_ok nmJ27 (Nat.le_of_ble_eq_true rfl) (Or.inl rfl) rfl (by decide +kernel) rfl rfl hh23 ?_
    obtain ⟨h24, eh24⟩ : ∃ z, z = hs h16 a0 (true, .inr (19, fs22.set 1 (.int (i17 + (1 : Int32))))) := ⟨_, rfl⟩
    try rw [← eh24] at hf
    rw [← eh24]
    refine v_qload_n (r := (some a0)) (i := 0) dJ27_linkLast_48 rfl rfl ?_
    refine v_dup dJ27_linkLast_49 (rf_cat _) ?_
    replace hf := gI_e hf
    obtain ⟨w26, fs27, i25, hh28, hk29, hf⟩ := hf
    refine v_getf (T := TJ27) (ci := 19) 0 dJ27_linkLast_50 q178 rfl in_J27 (Nat.le_of_ble_eq_true rfl) (Or.inr q179) hh28 hk29 ?_
    refine v_iconst (v := 1) dJ27_linkLast_53 (by decide) ?_
    refine v_iadd dJ27_linkLast_54 ?_
    replace hf := pF_e hf
    obtain ⟨fs30, hh31, hf⟩ := hf
    refine v_putf (v := .int (i25 + (1 : Int32))) (T := TJ27) (ci := 19) (ty := .int) 0 dJ27_linkLast_55 q178 rfl in_J27 tyJ27 tyJ27_ok nmJ27 (Nat.le_of_ble_eq_true rfl) (Or.inr q179) rfl (by decide +kernel) rfl rfl hh31 ?_
    obtain ⟨h32, eh32⟩ : ∃ z, z = hs h24 a0 (true, .inr (19, fs30.set 0 (.int (i25 + (1 : Int32))))) := ⟨_, rfl⟩
    try rw [← eh32] at hf
    rw [← eh32]
    exact v_vret dJ27_linkLast_58 rfl ⟨rfl, hf⟩
abbrev Y_J27_addLast : Yt := (yJ27_addLast, none, 3, 86, [])
def f_J27_addLast (G : Gt) (h : Hp) (t_0 : Option Nat) (r_1 : Option Nat) (K : Hp → Prop) : Prop :=
rv h t_0 19 (f_J27_linkLast G h t_0 r_1 (fun h4 =>
K h4))
theorem m_J27_addLast {G : Gt} {h : Hp} {a0 : Nat} {r_1 : Option Nat} {K : Hp → Prop} (hG : Base G) (hf : f_J27_addLast G h (some a0) r_1 K) : MM G Y_J27_addLast cJ27_addLast 2 1 3 [.ref a0, va_rf r_1] h (kV K) xN := by
  refine mm_of hG (by decide +kernel) rfl (ac_c rfl (ac_c (rf_cat _) ac_nil)) (Nat.le_of_ble_eq_true rfl) (fun E _ _ => ?_)
  show V G E Y_J27_addLast cJ27_addLast 2 (QM G E (kV K) xN) h 1 3 0 [(0, .ref a0), (1, va_rf r_1)] []
  unfold f_J27_addLast at hf
  refine v_qload_n (r := (some a0)) (i := 0) dJ27_addLast_0 rfl rfl ?_
  refine v_qload_n (r := r_1) (i := 1) dJ27_addLast_1 rfl rfl ?_
  replace hf := rv_e hf
  obtain ⟨w1, fs2, hh3, hf⟩ := hf
  refine v_callV (mc := 1) (ms := 3) 1 dJ27_addLast_2 (m_J27_linkLast hG hf) rfl hh3 rfl (lw_V q905 q906 q907 q122 q908) rfl (by decide +kernel) (by decide) rfl (cat_len (Nat.le_of_ble_eq_true rfl)) (kk_V fun h4 hg => ?_) (fun _ _ _ hx => hx.elim)
  replace hf := hg
  clear hg
  exact v_vret dJ27_addLast_5 rfl ⟨rfl, hf⟩
abbrev Y_J2_add_2 : Yt := (yJ2_add_2, none, 1, 40, [])
def f_J2_add_2 (G : Gt) (h : Hp) (t_0 : Option Nat) (r_1 : Option Nat) (r_2 : Option Nat) (i_3 : Int32) (K : Hp → Prop) : Prop :=
aL h r_2 fun i6 =>
((¬ (i_3 = i6) → sQ h r_2 i_3 r_1 fun h15 =>
pF h15 t_0 10 2 (.int (i_3 + (1 : Int32))) fun h18 =>
K h18) ∧
(i_3 = i6 → False))
theorem m_J2_add_2 {G : Gt} {h : Hp} {a0 : Nat} {r_1 : Option Nat} {r_2 : Option Nat} {i_3 : Int32} {K : Hp → Prop} (hG : Base G) (hf : f_J2_add_2 G h (some a0) r_1 r_2 i_3 K) : MM G Y_J2_add_2 cJ2_add_2 4 0 0 [.ref a0, va_rf r_1, va_rf r_2, .int i_3] h (kV K) xN := by
  refine mm_of hG (by decide +kernel) rfl (ac_c rfl (ac_c (rf_cat _) (ac_c (rf_cat _) (ac_c rfl ac_nil)))) (Nat.le_of_ble_eq_true rfl) (fun E _ _ => ?_)
  show V G E Y_J2_add_2 cJ2_add_2 4 (QM G E (kV K) xN) h 0 0 0 [(0, .ref a0), (1, va_rf r_1), (2, va_rf r_2), (3, .int i_3)] []
  unfold f_J2_add_2 at hf
  refine v_iload_n (i := 3) dJ2_add_2_0 rfl rfl ?_
  refine v_qload_n (r := r_2) (i := 2) dJ2_add_2_1 rfl rfl ?_
  obtain ⟨a1, rfl⟩ := aL_s hf
  replace hf := aL_e hf
  obtain ⟨w2, t3, x4, hh5, i6, ei6, hf⟩ := hf
  refine v_alen dJ2_add_2_2 hh5 ei6.symm ?_
  refine v_icmp_ne 11 dJ2_add_2_3 (by decide) (fun c7 => ?_) (fun c7 => ?_)
  · replace hf := hf.1 c7
    refine v_qload_n (r := (some a1)) (i := 2) dJ2_add_2_11 rfl rfl ?_
    refine v_iload_n (i := 3) dJ2_add_2_12 rfl rfl ?_
    refine v_qload_n (r := r_1) (i := 1) dJ2_add_2_13 rfl rfl ?_
    replace hf := sQ_e hf
    obtain ⟨t8, N9, f10, hh11, hD13, hi12, hy14, hf⟩ := hf
    refine v_sQ (y := r_1) dJ2_add_2_14 hD13 hh11 hi12 hy14 ?_
    obtain ⟨h15, eh15⟩ : ∃ z, z = hs h a1 (true, .inl (t8, N9, .inr (.inr (.inr (.inr (va_up f10 (i_3).toNatClampNeg r_1)))))) := ⟨_, rfl⟩
    try rw [← eh15] at hf
    rw [← eh15]
    refine v_qload_n (r := (some a0)) (i := 0) dJ2_add_2_15 rfl rfl ?_
    refine v_iload_n (i := 3) dJ2_add_2_16 rfl rfl ?_
    refine v_iconst (v := 1) dJ2_add_2_17 (by decide) ?_
    refine v_iadd dJ2_add_2_18 ?_
    replace hf := pF_e hf
    obtain ⟨fs16, hh17, hf⟩ := hf
    refine v_putf (v := .int (i_3 + (1 : Int32))) (T := TJ2) (ci := 10) (ty := .int) 2 dJ2_add_2_19 q174 rfl in_J2 tyJ2 tyJ2_ok nmJ2 (Nat.le_of_ble_eq_true rfl) (Or.inl rfl) rfl (by decide +kernel) rfl rfl hh17 ?_
    obtain ⟨h18, eh18⟩ : ∃ z, z = hs h15 a0 (true, .inr (10, fs16.set 2 (.int (i_3 + (1 : Int32))))) := ⟨_, rfl⟩
    try rw [← eh18] at hf
    rw [← eh18]
    exact v_vret dJ2_add_2_22 rfl ⟨rfl, hf⟩
  · replace hf := hf.2 c7
    refine v_qload_n (r := (some a0)) (i := 0) dJ2_add_2_6 rfl rfl ?_
    exact hf.elim
abbrev Y_J2_add : Yt := (yJ2_add, some (.boolean), 2, 63, [])
def f_J2_add (G : Gt) (h : Hp) (t_0 : Option Nat) (r_1 : Option Nat) (K : Int32 → Hp → Prop) : Prop :=
gI h t_0 10 0 fun i1 =>
pF h t_0 10 0 (.int (i1 + (1 : Int32))) fun h8 =>
gR h8 t_0 10 1 fun r9 =>
gI h8 t_0 10 2 fun i14 =>
rv h8 t_0 10 (f_J2_add_2 G h8 t_0 r_1 r9 i14 (fun h22 =>
K (1 : Int32) h22))
theorem m_J2_add {G : Gt} {h : Hp} {a0 : Nat} {r_1 : Option Nat} {K : Int32 → Hp → Prop} (hG : Base G) (hf : f_J2_add G h (some a0) r_1 K) : MM G Y_J2_add cJ2_add 2 0 0 [.ref a0, va_rf r_1] h (kI K) xN := by
  refine mm_of hG (by decide +kernel) rfl (ac_c rfl (ac_c (rf_cat _) ac_nil)) (Nat.le_of_ble_eq_true rfl) (fun E _ _ => ?_)
  show V G E Y_J2_add cJ2_add 2 (QM G E (kI K) xN) h 0 0 0 [(0, .ref a0), (1, va_rf r_1)] []
  unfold f_J2_add at hf
  refine v_qload_n (r := (some a0)) (i := 0) dJ2_add_0 rfl rfl ?_
  refine v_dup dJ2_add_1 (rf_cat _) ?_
  replace hf := gI_e hf
  obtain ⟨w2, fs3, i1, hh4, hk5, hf⟩ := hf
  refine v_getf (T := TJ2) (ci := 10) 0 dJ2_add_2 q180 rfl in_J2 (Nat.le_of_ble_eq_true rfl) (Or.inr q177) hh4 hk5 ?_
  refine v_iconst (v := 1) dJ2_add_5 (by decide) ?_
  refine v_iadd dJ2_add_6 ?_
  replace hf := pF_e hf
  obtain ⟨fs6, hh7, hf⟩ := hf
  refine v_putf (v := .int (i1 + (1 : Int32))) (T := TJ2) (ci := 10) (ty := .int) 0 dJ2_add_7 q180 rfl in_J2 tyJ2 tyJ2_ok nmJ2 (Nat.le_of_ble_eq_true rfl) (Or.inr q177) rfl (by decide +kernel) rfl rfl hh7 ?_
  obtain ⟨h8, eh8⟩ : ∃ z, z = hs h a0 (true, .inr (10, fs6.set 0 (.int (i1 + (1 : Int32))))) := ⟨_, rfl⟩
  try rw [← eh8] at hf
  rw [← eh8]
  refine v_qload_n (r := (some a0)) (i := 0) dJ2_add_10 rfl rfl ?_
  refine v_qload_n (r := r_1) (i := 1) dJ2_add_11 rfl rfl ?_
  refine v_qload_n (r := (some a0)) (i := 0) dJ2_add_12 rfl rfl ?_
  replace hf := gR_e hf
  obtain ⟨w10, fs11, r9, hh12, hk13, hf⟩ := hf
  refine v_getf (T := TJ2) (ci := 10) 1 dJ2_add_13 q171 rfl in_J2 (Nat.le_of_ble_eq_true rfl) (Or.inl rfl) hh12 hk13 ?_
  refine v_qload_n (r := (some a0)) (i := 0) dJ2_add_16 rfl rfl ?_
  replace hf := gI_e hf
  obtain ⟨w15, fs16, i14, hh17, hk18, hf⟩ := hf
  refine v_getf (T := TJ2) (ci := 10) 2 dJ2_add_17 q174 rfl in_J2 (Nat.le_of_ble_eq_true rfl) (Or.inl rfl) hh17 hk18 ?_
  replace hf := rv_e hf
  obtain ⟨w19, fs20, hh21, hf⟩ := hf
  refine V.addK0 ?_
  refine V.addN0 ?_
  refine v_callV (mc := 0) (ms := 0) 3 dJ2_add_20 (m_J2_add_2 hG hf) rfl hh21 rfl (lw_V q426 q428 qs0 q92 q429) rfl (by decide +kernel) (by decide) rfl (cat_len (Nat.le_of_ble_eq_true rfl)) (kk_V fun h22 hg => ?_) (fun _ _ _ hx => hx.elim)
  replace hf := hg
  clear hg
  refine v_iconst (v := 1) dJ2_add_23 (by decide) ?_
  exact v_zret dJ2_add_24 rfl (by decide) ⟨_, rfl, hf⟩
abbrev Y_J14_checkIndex : Yt := (yJ14_checkIndex, some (.int), 2, 62, [])
def f_J14_checkIndex (G : Gt) (h : Hp) (i_0 : Int32) (i_1 : Int32) (K : Int32 → Hp → Prop) : Prop :=
f_J15_checkIndex G h i_0 i_1 none (fun i2 h1 =>
K i2 h1)
theorem m_J14_checkIndex {G : Gt} {h : Hp} {i_0 : Int32} {i_1 : Int32} {K : Int32 → Hp → Prop} (hG : Base G) (hf : f_J14_checkIndex G h i_0 i_1 K) : MM G Y_J14_checkIndex cJ14_checkIndex 2 0 0 [.int i_0, .int i_1] h (kI K) xN := by
  refine mm_of hG (by decide +kernel) rfl (ac_c rfl (ac_c rfl ac_nil)) (Nat.le_of_ble_eq_true rfl) (fun E _ _ => ?_)
  show V G E Y_J14_checkIndex cJ14_checkIndex 2 (QM G E (kI K) xN) h 0 0 0 [(0, .int i_0), (1, .int i_1)] []
  unfold f_J14_checkIndex at hf
  refine v_iload_n (i := 0) dJ14_checkIndex_0 rfl rfl ?_
  refine v_iload_n (i := 1) dJ14_checkIndex_1 rfl rfl ?_
  refine v_null dJ14_checkIndex_2 ?_
  refine V.addK0 ?_
  refine V.addN0 ?_
  refine v_callS (mc := 0) (ms := 0) 3 dJ14_checkIndex_3 (m_J15_checkIndex hG hf) rfl (lw_S q667 q668 q109 q669) rfl (by decide +kernel) (by decide) rfl (cat_len (Nat.le_of_ble_eq_true rfl)) (kk_I fun i2 h1 hg => ?_) (fun _ _ _ hx => hx.elim)
  replace hf := hg
  clear hg
  exact v_iret dJ14_checkIndex_6 rfl ⟨_, rfl, hf⟩
abbrev Y_J2_elementData : Yt := (yJ2_elementData, some (.object "java/lang/Object"), 1, 40, [])
def f_J2_elementData (G : Gt) (h : Hp) (t_0 : Option Nat) (i_1 : Int32) (K : Option Nat → Hp → Prop) : Prop :=
gR h t_0 10 1 fun r1 =>
aQ h r1 i_1 fun r14 =>
K r14 h
theorem m_J2_elementData {G : Gt} {h : Hp} {a0 : Nat} {i_1 : Int32} {K : Option Nat → Hp → Prop} (hG : Base G) (hf : f_J2_elementData G h (some a0) i_1 K) : MM G Y_J2_elementData cJ2_elementData 2 0 0 [.ref a0, .int i_1] h (kR K) xN := by
  refine mm_of hG (by decide +kernel) rfl (ac_c rfl (ac_c rfl ac_nil)) (Nat.le_of_ble_eq_true rfl) (fun E _ _ => ?_)
  show V G E Y_J2_elementData cJ2_elementData 2 (QM G E (kR K) xN) h 0 0 0 [(0, .ref a0), (1, .int i_1)] []
  unfold f_J2_elementData at hf
  refine v_qload_n (r := (some a0)) (i := 0) dJ2_elementData_0 rfl rfl ?_
  replace hf := gR_e hf
  obtain ⟨w2, fs3, r1, hh4, hk5, hf⟩ := hf
  refine v_getf (T := TJ2) (ci := 10) 1 dJ2_elementData_1 q171 rfl in_J2 (Nat.le_of_ble_eq_true rfl) (Or.inl rfl) hh4 hk5 ?_
  refine v_iload_n (i := 1) dJ2_elementData_4 rfl rfl ?_
  obtain ⟨a6, rfl⟩ := aQ_s hf
  replace hf := aQ_e hf
  obtain ⟨w7, t8, N9, f10, hh11, ht12, hi13, r14, er14, hf⟩ := hf
  refine v_aald dJ2_elementData_5 ht12 hh11 hi13 ?_
  rw [← er14]
  exact v_qret (r := r14) dJ2_elementData_6 rfl (Or.inl ⟨_, rfl⟩) ⟨_, rfl, hf⟩
abbrev Y_J2_get : Yt := (yJ2_get, some (.object "java/lang/Object"), 3, 83, [])
def f_J2_get (G : Gt) (h : Hp) (t_0 : Option Nat) (i_1 : Int32) (K : Option Nat → Hp → Prop) : Prop :=
gI h t_0 10 2 fun i1 =>
f_J14_checkIndex G h i_1 i1 (fun i7 h6 =>
rv h6 t_0 10 (f_J2_elementData G h6 t_0 i_1 (fun r12 h11 =>
K r12 h11)))
theorem m_J2_get {G : Gt} {h : Hp} {a0 : Nat} {i_1 : Int32} {K : Option Nat → Hp → Prop} (hG : Base G) (hf : f_J2_get G h (some a0) i_1 K) : MM G Y_J2_get cJ2_get 2 0 0 [.ref a0, .int i_1] h (kR K) xN := by
  refine mm_of hG (by decide +kernel) rfl (ac_c rfl (ac_c rfl ac_nil)) (Nat.le_of_ble_eq_true rfl) (fun E _ _ => ?_)
  show V G E Y_J2_get cJ2_get 2 (QM G E (kR K) xN) h 0 0 0 [(0, .ref a0), (1, .int i_1)] []
  unfold f_J2_get at hf
  refine v_iload_n (i := 1) dJ2_get_0 rfl rfl ?_
  refine v_qload_n (r := (some a0)) (i := 0) dJ2_get_1 rfl rfl ?_
  replace hf := gI_e hf
  obtain ⟨w2, fs3, i1, hh4, hk5, hf⟩ := hf
  refine v_getf (T := TJ2) (ci := 10) 2 dJ2_get_2 q174 rfl in_J2 (Nat.le_of_ble_eq_true rfl) (Or.inl rfl) hh4 hk5 ?_
  refine V.addK0 ?_
  refine V.addN0 ?_
  refine v_callS (mc := 0) (ms := 0) 2 dJ2_get_5 (m_J14_checkIndex hG hf) rfl (lw_S q664 q665 q108 q666) rfl (by decide +kernel) (by decide) rfl (cat_len (Nat.le_of_ble_eq_true rfl)) (kk_I fun i7 h6 hg => ?_) (fun _ _ _ hx => hx.elim)
  replace hf := hg
  clear hg
  refine v_pop dJ2_get_8 rfl ?_
  refine v_qload_n (r := (some a0)) (i := 0) dJ2_get_9 rfl rfl ?_
  refine v_iload_n (i := 1) dJ2_get_10 rfl rfl ?_
  replace hf := rv_e hf
  obtain ⟨w8, fs9, hh10, hf⟩ := hf
  refine V.addK0 ?_
  refine V.addN0 ?_
  refine v_callV (mc := 0) (ms := 0) 1 dJ2_get_11 (m_J2_elementData hG hf) rfl hh10 rfl (lw_V q670 q671 q672 q92 q673) rfl (by decide +kernel) (by decide) rfl (cat_len (Nat.le_of_ble_eq_true rfl)) (kk_R fun r12 h11 hg => ?_) (fun _ _ _ hx => hx.elim)
  replace hf := hg
  clear hg
  exact v_qret (r := r12) dJ2_get_14 rfl (Or.inl ⟨_, rfl⟩) ⟨_, rfl, hf⟩
abbrev Y_J2_set : Yt := (yJ2_set, some (.object "java/lang/Object"), 3, 83, [])
def f_J2_set (G : Gt) (h : Hp) (t_0 : Option Nat) (i_1 : Int32) (r_2 : Option Nat) (K : Option Nat → Hp → Prop) : Prop :=
gI h t_0 10 2 fun i1 =>
f_J14_checkIndex G h i_1 i1 (fun i7 h6 =>
rv h6 t_0 10 (f_J2_elementData G h6 t_0 i_1 (fun r12 h11 =>
gR h11 t_0 10 1 fun r13 =>
sQ h11 r13 i_1 r_2 fun h26 =>
K r12 h26)))
theorem m_J2_set {G : Gt} {h : Hp} {a0 : Nat} {i_1 : Int32} {r_2 : Option Nat} {K : Option Nat → Hp → Prop} (hG : Base G) (hf : f_J2_set G h (some a0) i_1 r_2 K) : MM G Y_J2_set cJ2_set 4 0 0 [.ref a0, .int i_1, va_rf r_2] h (kR K) xN := by
  refine mm_of hG (by decide +kernel) rfl (ac_c rfl (ac_c rfl (ac_c (rf_cat _) ac_nil))) (Nat.le_of_ble_eq_true rfl) (fun E _ _ => ?_)
  show V G E Y_J2_set cJ2_set 4 (QM G E (kR K) xN) h 0 0 0 [(0, .ref a0), (1, .int i_1), (2, va_rf r_2)] []
  unfold f_J2_set at hf
  refine v_iload_n (i := 1) dJ2_set_0 rfl rfl ?_
  refine v_qload_n (r := (some a0)) (i := 0) dJ2_set_1 rfl rfl ?_
  replace hf := gI_e hf
  obtain ⟨w2, fs3, i1, hh4, hk5, hf⟩ := hf
  refine v_getf (T := TJ2) (ci := 10) 2 dJ2_set_2 q174 rfl in_J2 (Nat.le_of_ble_eq_true rfl) (Or.inl rfl) hh4 hk5 ?_
  refine V.addK0 ?_
  refine V.addN0 ?_
  refine v_callS (mc := 0) (ms := 0) 2 dJ2_set_5 (m_J14_checkIndex hG hf) rfl (lw_S q664 q665 q108 q666) rfl (by decide +kernel) (by decide) rfl (cat_len (Nat.le_of_ble_eq_true rfl)) (kk_I fun i7 h6 hg => ?_) (fun _ _ _ hx => hx.elim)
  replace hf := hg
  clear hg
  refine v_pop dJ2_set_8 rfl ?_
  refine v_qload_n (r := (some a0)) (i := 0) dJ2_set_9 rfl rfl ?_
  refine v_iload_n (i := 1) dJ2_set_10 rfl rfl ?_
  replace hf := rv_e hf
  obtain ⟨w8, fs9, hh10, hf⟩ := hf
  refine V.addK0 ?_
  refine V.addN0 ?_
  refine v_callV (mc := 0) (ms := 0) 1 dJ2_set_11 (m_J2_elementData hG hf) rfl hh10 rfl (lw_V q670 q671 q672 q92 q673) rfl (by decide +kernel) (by decide) rfl (cat_len (Nat.le_of_ble_eq_true rfl)) (kk_R fun r12 h11 hg => ?_) (fun _ _ _ hx => hx.elim)
  replace hf := hg
  clear hg
  refine v_qstore_n (i := 3) (r := r12) (lv' := [(0, va_rf (some a0)), (1, .int i_1), (2, va_rf r_2), (3, va_rf r12)]) dJ2_set_14 rfl (Nat.le_of_ble_eq_true rfl) rfl rfl ?_
  refine v_qload_n (r := (some a0)) (i := 0) dJ2_set_15 rfl rfl ?_
  replace hf := gR_e hf
  obtain ⟨w14, fs15, r13, hh16, hk17, hf⟩ := hf
  refine v_getf (T := TJ2) (ci := 10) 1 dJ2_set_16 q171 rfl in_J2 (Nat.le_of_ble_eq_true rfl) (Or.inl rfl) hh16 hk17 ?_
  refine v_iload_n (i := 1) dJ2_set_19 rfl rfl ?_
  refine v_qload_n (r := r_2) (i := 2) dJ2_set_20 rfl rfl ?_
  obtain ⟨a18, rfl⟩ := sQ_s hf
  replace hf := sQ_e hf
  obtain ⟨t19, N20, f21, hh22, hD24, hi23, hy25, hf⟩ := hf
  refine v_sQ (y := r_2) dJ2_set_21 hD24 hh22 hi23 hy25 ?_
  obtain ⟨h26, eh26⟩ : ∃ z, z = hs h11 a18 (true, .inl (t19, N20, .inr (.inr (.inr (.inr (va_up f21 (i_1).toNatClampNeg r_2)))))) := ⟨_, rfl⟩
  try rw [← eh26] at hf
  rw [← eh26]
  refine v_qload_n (r := r12) (i := 3) dJ2_set_22 rfl rfl ?_
  exact v_qret (r := r12) dJ2_set_23 rfl (Or.inl ⟨_, rfl⟩) ⟨_, rfl, hf⟩
abbrev Y_J8_init : Yt := (yJ8_init, none, 1, 40, [])
def f_J8_init (G : Gt) (h : Hp) (t_0 : Option Nat) (r_1 : Option Nat) (K : Hp → Prop) : Prop :=
pF h t_0 11 3 (va_rf r_1) fun h3 =>
pF h3 t_0 11 1 (.int (-1 : Int32)) fun h6 =>
gR h6 t_0 11 3 fun r7 =>
gI h6 r7 10 0 fun i12 =>
pF h6 t_0 11 2 (.int i12) fun h20 =>
K h20
theorem m_J8_init {G : Gt} {h : Hp} {a0 : Nat} {r_1 : Option Nat} {K : Hp → Prop} (hG : Base G) (hf : f_J8_init G h (some a0) r_1 K) : MM G Y_J8_init cJ8_init 2 0 0 [.ref a0, va_rf r_1] h (kV K) xN := by
  refine mm_of hG (by decide +kernel) rfl (ac_c rfl (ac_c (rf_cat _) ac_nil)) (Nat.le_of_ble_eq_true rfl) (fun E _ _ => ?_)
  show V G E Y_J8_init cJ8_init 2 (QM G E (kV K) xN) h 0 0 0 [(0, .ref a0), (1, va_rf r_1)] []
  unfold f_J8_init at hf
  refine v_qload_n (r := (some a0)) (i := 0) dJ8_init_0 rfl rfl ?_
  refine v_qload_n (r := r_1) (i := 1) dJ8_init_1 rfl rfl ?_
  replace hf := pF_e hf
  obtain ⟨fs1, hh2, hf⟩ := hf
  refine v_putfF (v := va_rf r_1) (T := TJ8) (ci := 11) (ty := .object "java/util/ArrayList") 3 dJ8_init_2 q328 rfl in_J8 tyJ8 tyJ8_ok nmJ8 (Nat.le_of_ble_eq_true rfl) (Or.inl rfl) rfl rfl rfl (by decide +kernel) (rf_nar _ _) (rf_fit _ _) hh2 ?_
  obtain ⟨h3, eh3⟩ : ∃ z, z = hs h a0 (true, .inr (11, fs1.set 3 (va_rf r_1))) := ⟨_, rfl⟩
  try rw [← eh3] at hf
  rw [← eh3]
  refine v_qload_n (r := (some a0)) (i := 0) dJ8_init_5 rfl rfl ?_
  refine v_objInit dJ8_init_6 q324 q153 q154 (cat_len (Nat.le_of_ble_eq_true rfl)) (Nat.le_of_ble_eq_true rfl) (Nat.le_of_ble_eq_true rfl) ?_
  refine v_qload_n (r := (some a0)) (i := 0) dJ8_init_9 rfl rfl ?_
  refine v_iconst (v := -1) dJ8_init_10 (by decide) ?_
  replace hf := pF_e hf
  obtain ⟨fs4, hh5, hf⟩ := hf
  refine v_putf (v := .int (-1 : Int32)) (T := TJ8) (ci := 11) (ty := .int) 1 dJ8_init_11 q326 rfl in_J8 tyJ8 tyJ8_ok nmJ8 (Nat.le_of_ble_eq_true rfl) (Or.inl rfl) rfl (by decide +kernel) rfl rfl hh5 ?_
  obtain ⟨h6, eh6⟩ : ∃ z, z = hs h3 a0 (true, .inr (11, fs4.set 1 (.int (-1 : Int32)))) := ⟨_, rfl⟩
  try rw [← eh6] at hf
  rw [← eh6]
  refine v_qload_n (r := (some a0)) (i := 0) dJ8_init_14 rfl rfl ?_
  refine v_qload_n (r := (some a0)) (i := 0) dJ8_init_15 rfl rfl ?_
  replace hf := gR_e hf
  obtain ⟨w8, fs9, r7, hh10, hk11, hf⟩ := hf
  refine v_getf (T := TJ8) (ci := 11) 3 dJ8_init_16 q328 rfl in_J8 (Nat.le_of_ble_eq_true rfl) (Or.inl rfl) hh10 hk11 ?_
  obtain ⟨a13, rfl⟩ := gI_s hf
  replace hf := gI_e hf
  obtain ⟨w14, fs15, i12, hh16, hk17, hf⟩ := hf
  refine v_getf (T := TJ2) (ci := 10) 0 dJ8_init_19 q176 rfl in_J2 (Nat.le_of_ble_eq_true rfl) (Or.inr q177) hh16 hk17 ?_
  replace hf := pF_e hf
  obtain ⟨fs18, hh19, hf⟩ := hf
  refine v_putf (v := .int i12) (T := TJ8) (ci := 11) (ty := .int) 2 dJ8_init_22 q327 rfl in_J8 tyJ8 tyJ8_ok nmJ8 (Nat.le_of_ble_eq_true rfl) (Or.inl rfl) rfl (by decide +kernel) rfl rfl hh19 ?_
  obtain ⟨h20, eh20⟩ : ∃ z, z = hs h6 a0 (true, .inr (11, fs18.set 2 (.int i12))) := ⟨_, rfl⟩
  try rw [← eh20] at hf
  rw [← eh20]
  exact v_vret dJ8_init_25 rfl ⟨rfl, hf⟩
abbrev Y_J2_iterator : Yt := (yJ2_iterator, some (.object "java/util/Iterator"), 2, 61, [])
def f_J2_iterator (G : Gt) (h : Hp) (t_0 : Option Nat) (K : Option Nat → Hp → Prop) : Prop :=
nO h 11 [.int 0, .int 0, .int 0, .null] fun a1 h2 =>
f_J8_init G h2 (some a1) t_0 (fun h3 =>
K (some a1) h3)
theorem m_J2_iterator {G : Gt} {h : Hp} {a0 : Nat} {K : Option Nat → Hp → Prop} (hG : Base G) (hf : f_J2_iterator G h (some a0) K) : MM G Y_J2_iterator cJ2_iterator 1 1 4 [.ref a0] h (kR K) xN := by
  refine mm_of hG (by decide +kernel) rfl (ac_c rfl ac_nil) (Nat.le_of_ble_eq_true rfl) (fun E _ _ => ?_)
  show V G E Y_J2_iterator cJ2_iterator 1 (QM G E (kR K) xN) h 1 4 0 [(0, .ref a0)] []
  unfold f_J2_iterator at hf
  refine v_new (N := 4) (fs := [.int 0, .int 0, .int 0, .null]) (ci := 11) dJ2_iterator_0 q319 q320 q99 rfl in_J8 tyJ8 tyJ8_ok rfl (fun a1 ha1 => ?_)
  replace hf := hf a1 ha1
  obtain ⟨h2, eh2⟩ : ∃ z, z = hs h a1 (true, .inr (11, [.int 0, .int 0, .int 0, .null])) := ⟨_, rfl⟩
  try rw [← eh2] at hf
  rw [← eh2]
  refine v_dup dJ2_iterator_3 rfl ?_
  refine v_qload_n (r := (some a0)) (i := 0) dJ2_iterator_4 rfl rfl ?_
  refine V.addK0 ?_
  refine V.addN0 ?_
  refine v_callI (mc := 0) (ms := 0) 1 dJ2_iterator_5 (m_J8_init hG hf) rfl (lw_meth q323) rfl q99 q321 q322 rfl rfl (by decide +kernel) (by decide) rfl (cat_len (Nat.le_of_ble_eq_true rfl)) (kk_V fun h3 hg => ?_) (fun _ _ _ hx => hx.elim)
  replace hf := hg
  clear hg
  exact v_qret (r := (some a1)) dJ2_iterator_8 rfl (Or.inl ⟨_, rfl⟩) ⟨_, rfl, hf⟩
abbrev Y_J3_inc : Yt := (yJ3_inc, some (.int), 1, 40, [])
def f_J3_inc (G : Gt) (h : Hp) (i_0 : Int32) (i_1 : Int32) (K : Int32 → Hp → Prop) : Prop :=
((i_0 + (1 : Int32) < i_1 → K (i_0 + (1 : Int32)) h) ∧
(¬ (i_0 + (1 : Int32) < i_1) → K (0 : Int32) h))
theorem m_J3_inc {G : Gt} {h : Hp} {i_0 : Int32} {i_1 : Int32} {K : Int32 → Hp → Prop} (hG : Base G) (hf : f_J3_inc G h i_0 i_1 K) : MM G Y_J3_inc cJ3_inc 2 0 0 [.int i_0, .int i_1] h (kI K) xN := by
  refine mm_of hG (by decide +kernel) rfl (ac_c rfl (ac_c rfl ac_nil)) (Nat.le_of_ble_eq_true rfl) (fun E _ _ => ?_)
  show V G E Y_J3_inc cJ3_inc 2 (QM G E (kI K) xN) h 0 0 0 [(0, .int i_0), (1, .int i_1)] []
  unfold f_J3_inc at hf
  refine v_iinc (i := 0) (v := i_0 + (1 : Int32)) (lv' := [(0, .int (i_0 + (1 : Int32))), (1, .int i_1)]) dJ3_inc_0 rfl rfl (Nat.le_of_ble_eq_true rfl) rfl rfl ?_
  refine v_iload_n (i := 0) dJ3_inc_3 rfl rfl ?_
  refine v_iload_n (i := 1) dJ3_inc_4 rfl rfl ?_
  refine v_icmp_lt 10 dJ3_inc_5 (by decide) (fun c1 => ?_) (fun c1 => ?_)
  · replace hf := hf.1 c1
    refine v_iload_n (i := 0) dJ3_inc_10 rfl rfl ?_
    exact v_iret dJ3_inc_11 rfl ⟨_, rfl, hf⟩
  · replace hf := hf.2 c1
    refine v_iconst (v := 0) dJ3_inc_8 (by decide) ?_
    refine v_istore_n (i := 0) (lv' := [(0, .int (0 : Int32)), (1, .int i_1)]) dJ3_inc_9 rfl (Nat.le_of_ble_eq_true rfl) rfl rfl ?_
    refine v_iload_n (i := 0) dJ3_inc_10 rfl rfl ?_
    exact v_iret dJ3_inc_11 rfl ⟨_, rfl, hf⟩
abbrev Y_J3_addLast : Yt := (yJ3_addLast, none, 2, 61, [])
def f_J3_addLast (G : Gt) (h : Hp) (t_0 : Option Nat) (r_1 : Option Nat) (K : Hp → Prop) : Prop :=
((r_1 = none → False) ∧
(∀ y1, r_1 = some y1 → gR h t_0 12 0 fun r3 =>
gI h t_0 12 2 fun i8 =>
sQ h r3 i8 r_1 fun h21 =>
gI h21 t_0 12 1 fun i22 =>
gI h21 t_0 12 2 fun i27 =>
aL h21 r3 fun i36 =>
f_J3_inc G h21 i27 i36 (fun i38 h37 =>
pF h37 t_0 12 2 (.int i38) fun h41 =>
((¬ (i22 = i38) → K h41) ∧
(i22 = i38 → False)))))
theorem m_J3_addLast {G : Gt} {h : Hp} {a0 : Nat} {r_1 : Option Nat} {K : Hp → Prop} (hG : Base G) (hf : f_J3_addLast G h (some a0) r_1 K) : MM G Y_J3_addLast cJ3_addLast 3 0 0 [.ref a0, va_rf r_1] h (kV K) xN := by
  refine mm_of hG (by decide +kernel) rfl (ac_c rfl (ac_c (rf_cat _) ac_nil)) (Nat.le_of_ble_eq_true rfl) (fun E _ _ => ?_)
  show V G E Y_J3_addLast cJ3_addLast 3 (QM G E (kV K) xN) h 0 0 0 [(0, .ref a0), (1, va_rf r_1)] []
  unfold f_J3_addLast at hf
  refine v_qload_n (r := r_1) (i := 1) dJ3_addLast_0 rfl rfl ?_
  refine v_ifnonnull 12 dJ3_addLast_1 (by decide) (fun y1 e2 => ?_) (fun e2 => ?_)
  · replace hf := hf.2 y1 e2
    subst e2
    refine v_qload_n (r := (some a0)) (i := 0) dJ3_addLast_12 rfl rfl ?_
    replace hf := gR_e hf
    obtain ⟨w4, fs5, r3, hh6, hk7, hf⟩ := hf
    refine v_getf (T := TJ3) (ci := 12) 0 dJ3_addLast_13 q231 rfl in_J3 (Nat.le_of_ble_eq_true rfl) (Or.inl rfl) hh6 hk7 ?_
    refine v_qstore_n (i := 2) (r := r3) (lv' := [(0, va_rf (some a0)), (1, va_rf (some y1)), (2, va_rf r3)]) dJ3_addLast_16 rfl (Nat.le_of_ble_eq_true rfl) rfl rfl ?_
    refine v_qload_n (r := r3) (i := 2) dJ3_addLast_17 rfl rfl ?_
    refine v_qload_n (r := (some a0)) (i := 0) dJ3_addLast_18 rfl rfl ?_
    replace hf := gI_e hf
    obtain ⟨w9, fs10, i8, hh11, hk12, hf⟩ := hf
    refine v_getf (T := TJ3) (ci := 12) 2 dJ3_addLast_19 q233 rfl in_J3 (Nat.le_of_ble_eq_true rfl) (Or.inl rfl) hh11 hk12 ?_
    refine v_qload_n (r := (some y1)) (i := 1) dJ3_addLast_22 rfl rfl ?_
    obtain ⟨a13, rfl⟩ := sQ_s hf
    replace hf := sQ_e hf
    obtain ⟨t14, N15, f16, hh17, hD19, hi18, hy20, hf⟩ := hf
    refine v_sQ (y := (some y1)) dJ3_addLast_23 hD19 hh17 hi18 hy20 ?_
    obtain ⟨h21, eh21⟩ : ∃ z, z = hs h a13 (true, .inl (t14, N15, .inr (.inr (.inr (.inr (va_up f16 (i8).toNatClampNeg (some y1))))))) := ⟨_, rfl⟩
    try rw [← eh21] at hf
    rw [← eh21]
    refine v_qload_n (r := (some a0)) (i := 0) dJ3_addLast_24 rfl rfl ?_
    replace hf := gI_e hf
    obtain ⟨w23, fs24, i22, hh25, hk26, hf⟩ := hf
    refine v_getf (T := TJ3) (ci := 12) 1 dJ3_addLast_25 q232 rfl in_J3 (Nat.le_of_ble_eq_true rfl) (Or.inl rfl) hh25 hk26 ?_
    refine v_qload_n (r := (some a0)) (i := 0) dJ3_addLast_28 rfl rfl ?_
    refine v_qload_n (r := (some a0)) (i := 0) dJ3_addLast_29 rfl rfl ?_
    replace hf := gI_e hf
    obtain ⟨w28, fs29, i27, hh30, hk31, hf⟩ := hf
    refine v_getf (T := TJ3) (ci := 12) 2 dJ3_addLast_30 q233 rfl in_J3 (Nat.le_of_ble_eq_true rfl) (Or.inl rfl) hh30 hk31 ?_
    refine v_qload_n (r := (some a13)) (i := 2) dJ3_addLast_33 rfl rfl ?_
    replace hf := aL_e hf
    obtain ⟨w32, t33, x34, hh35, i36, ei36, hf⟩ := hf
    refine v_alen dJ3_addLast_34 hh35 ei36.symm ?_
    refine V.addK0 ?_
    refine V.addN0 ?_
    refine v_callS (mc := 0) (ms := 0) 2 dJ3_addLast_35 (m_J3_inc hG hf) rfl (lw_S q593 q594 q93 q595) rfl (by decide +kernel) (by decide) rfl (cat_len (Nat.le_of_ble_eq_true rfl)) (kk_I fun i38 h37 hg => ?_) (fun _ _ _ hx => hx.elim)
    replace hf := hg
    clear hg
    refine v_dup_x1 dJ3_addLast_38 rfl (rf_cat _) ?_
    replace hf := pF_e hf
    obtain ⟨fs39, hh40, hf⟩ := hf
    refine v_putf (v := .int i38) (T := TJ3) (ci := 12) (ty := .int) 2 dJ3_addLast_39 q233 rfl in_J3 tyJ3 tyJ3_ok nmJ3 (Nat.le_of_ble_eq_true rfl) (Or.inl rfl) rfl (by decide +kernel) rfl rfl hh40 ?_
    obtain ⟨h41, eh41⟩ : ∃ z, z = hs h37 a0 (true, .inr (12, fs39.set 2 (.int i38))) := ⟨_, rfl⟩
    try rw [← eh41] at hf
    rw [← eh41]
    refine v_icmp_ne 50 dJ3_addLast_42 (by decide) (fun c42 => ?_) (fun c42 => ?_)
    · replace hf := hf.1 c42
      exact v_vret dJ3_addLast_50 rfl ⟨rfl, hf⟩
    · replace hf := hf.2 c42
      refine v_qload_n (r := (some a0)) (i := 0) dJ3_addLast_45 rfl rfl ?_
      refine v_iconst (v := 1) dJ3_addLast_46 (by decide) ?_
      exact hf.elim
  · replace hf := hf.1 e2
    subst e2
    exact hf.elim
abbrev Y_J3_circularClear : Yt := (yJ3_circularClear, none, 1, 40, [])
def g_J3_circularClear_0 (G : Gt) (E : Ev) (h : Hp) (k n : Nat) (r_0 : Option Nat) (i_1 : Int32) (i_2 : Int32) (K : Hp → Prop) : Prop :=
((i_2 < i_1 → aL h r_0 fun i7 =>
V G E Y_J3_circularClear cJ3_circularClear 4 (QM G E (kV K) xN) h k n 12 [(0, va_rf r_0), (1, .int i_1), (2, .int i_2), (3, .int i7)] []) ∧
(¬ (i_2 < i_1) → V G E Y_J3_circularClear cJ3_circularClear 4 (QM G E (kV K) xN) h k n 12 [(0, va_rf r_0), (1, .int i_1), (2, .int i_2), (3, .int i_2)] []))
theorem s_J3_circularClear_0 {G : Gt} {E : Ev} {h : Hp} {k0 n0 : Nat} {r_0 : Option Nat} {i_1 : Int32} {i_2 : Int32} {K : Hp → Prop} (hG : Base G) (hA : 0 ≤ k0) (hB : 0 ≤ n0) (hf : g_J3_circularClear_0 G E h (k0 - 0) (n0 - 0) r_0 i_1 i_2 K) : V G E Y_J3_circularClear cJ3_circularClear 4 (QM G E (kV K) xN) h k0 n0 0 [(0, va_rf r_0), (1, .int i_1), (2, .int i_2)] [] := by
  obtain ⟨k, hk9⟩ : ∃ z, z = k0 - 0 := ⟨_, rfl⟩
  obtain ⟨n, hn9⟩ : ∃ z, z = n0 - 0 := ⟨_, rfl⟩
  rw [← hk9, ← hn9] at hf
  refine V.weak (k' := k + 0) (n' := n + 0) ?_ (by omega) (by omega)
  unfold g_J3_circularClear_0 at hf
  refine v_iload_n (i := 1) dJ3_circularClear_0 rfl rfl ?_
  refine v_iload_n (i := 2) dJ3_circularClear_1 rfl rfl ?_
  refine v_icmp_gt 9 dJ3_circularClear_2 (by decide) (fun c1 => ?_) (fun c1 => ?_)
  · replace hf := hf.1 c1
    refine v_qload_n (r := r_0) (i := 0) dJ3_circularClear_9 rfl rfl ?_
    obtain ⟨a2, rfl⟩ := aL_s hf
    replace hf := aL_e hf
    obtain ⟨w3, t4, x5, hh6, i7, ei7, hf⟩ := hf
    refine v_alen dJ3_circularClear_10 hh6 ei7.symm ?_
    refine v_istore_n (i := 3) (lv' := [(0, va_rf (some a2)), (1, .int i_1), (2, .int i_2), (3, .int i7)]) dJ3_circularClear_11 rfl (Nat.le_of_ble_eq_true rfl) rfl rfl ?_
    exact V.weak hf (by omega) (by omega)
  · replace hf := hf.2 c1
    refine v_iload_n (i := 2) dJ3_circularClear_5 rfl rfl ?_
    refine v_goto 11 dJ3_circularClear_6 (by decide) ?_
    refine v_istore_n (i := 3) (lv' := [(0, va_rf r_0), (1, .int i_1), (2, .int i_2), (3, .int i_2)]) dJ3_circularClear_11 rfl (Nat.le_of_ble_eq_true rfl) rfl rfl ?_
    exact V.weak hf (by omega) (by omega)
def g_J3_circularClear_12 (G : Gt) (E : Ev) (h : Hp) (k n : Nat) (r_0 : Option Nat) (i_1 : Int32) (i_2 : Int32) (i_3 : Int32) (K : Hp → Prop) : Prop :=
((i_3 ≤ i_1 → ((¬ (i_3 = i_2) → V G E Y_J3_circularClear cJ3_circularClear 4 (QM G E (kV K) xN) h k n 12 [(0, va_rf r_0), (1, .int (0 : Int32)), (2, .int i_2), (3, .int i_2)] []) ∧
(i_3 = i_2 → K h))) ∧
(¬ (i_3 ≤ i_1) → sQ h r_0 i_1 none fun h11 =>
V G E Y_J3_circularClear cJ3_circularClear 4 (QM G E (kV K) xN) h11 k n 12 [(0, va_rf r_0), (1, .int (i_1 + (1 : Int32))), (2, .int i_2), (3, .int i_3)] []))
theorem s_J3_circularClear_12 {G : Gt} {E : Ev} {h : Hp} {k0 n0 : Nat} {r_0 : Option Nat} {i_1 : Int32} {i_2 : Int32} {i_3 : Int32} {K : Hp → Prop} (hG : Base G) (hA : 0 ≤ k0) (hB : 0 ≤ n0) (hf : g_J3_circularClear_12 G E h (k0 - 0) (n0 - 0) r_0 i_1 i_2 i_3 K) : V G E Y_J3_circularClear cJ3_circularClear 4 (QM G E (kV K) xN) h k0 n0 12 [(0, va_rf r_0), (1, .int i_1), (2, .int i_2), (3, .int i_3)] [] := by
  obtain ⟨k, hk9⟩ : ∃ z, z = k0 - 0 := ⟨_, rfl⟩
  obtain ⟨n, hn9⟩ : ∃ z, z = n0 - 0 := ⟨_, rfl⟩
  rw [← hk9, ← hn9] at hf
  refine V.weak (k' := k + 0) (n' := n + 0) ?_ (by omega) (by omega)
  unfold g_J3_circularClear_12 at hf
  refine v_iload_n (i := 1) dJ3_circularClear_12 rfl rfl ?_
  refine v_iload_n (i := 3) dJ3_circularClear_13 rfl rfl ?_
  refine v_icmp_ge 27 dJ3_circularClear_14 (by decide) (fun c1 => ?_) (fun c1 => ?_)
  · replace hf := hf.1 c1
    refine v_iload_n (i := 3) dJ3_circularClear_27 rfl rfl ?_
    refine v_iload_n (i := 2) dJ3_circularClear_28 rfl rfl ?_
    refine v_icmp_ne 35 dJ3_circularClear_29 (by decide) (fun c2 => ?_) (fun c2 => ?_)
    · replace hf := hf.1 c2
      refine v_iconst (v := 0) dJ3_circularClear_35 (by decide) ?_
      refine v_istore_n (i := 1) (lv' := [(0, va_rf r_0), (1, .int (0 : Int32)), (2, .int i_2), (3, .int i_3)]) dJ3_circularClear_36 rfl (Nat.le_of_ble_eq_true rfl) rfl rfl ?_
      refine v_iload_n (i := 2) dJ3_circularClear_37 rfl rfl ?_
      refine v_istore_n (i := 3) (lv' := [(0, va_rf r_0), (1, .int (0 : Int32)), (2, .int i_2), (3, .int i_2)]) dJ3_circularClear_38 rfl (Nat.le_of_ble_eq_true rfl) rfl rfl ?_
      refine v_goto 12 dJ3_circularClear_39 (by decide) ?_
      exact V.weak hf (by omega) (by omega)
    · replace hf := hf.2 c2
      refine v_goto 42 dJ3_circularClear_32 (by decide) ?_
      exact v_vret dJ3_circularClear_42 rfl ⟨rfl, hf⟩
  · replace hf := hf.2 c1
    refine v_qload_n (r := r_0) (i := 0) dJ3_circularClear_17 rfl rfl ?_
    refine v_iload_n (i := 1) dJ3_circularClear_18 rfl rfl ?_
    refine v_null dJ3_circularClear_19 ?_
    obtain ⟨a3, rfl⟩ := sQ_s hf
    replace hf := sQ_e hf
    obtain ⟨t4, N5, f6, hh7, hD9, hi8, hy10, hf⟩ := hf
    refine v_sQ (y := none) dJ3_circularClear_20 hD9 hh7 hi8 hy10 ?_
    obtain ⟨h11, eh11⟩ : ∃ z, z = hs h a3 (true, .inl (t4, N5, .inr (.inr (.inr (.inr (va_up f6 (i_1).toNatClampNeg none)))))) := ⟨_, rfl⟩
    try rw [← eh11] at hf
    rw [← eh11]
    refine v_iinc (i := 1) (v := i_1 + (1 : Int32)) (lv' := [(0, va_rf (some a3)), (1, .int (i_1 + (1 : Int32))), (2, .int i_2), (3, .int i_3)]) dJ3_circularClear_21 rfl rfl (Nat.le_of_ble_eq_true rfl) rfl rfl ?_
    refine v_goto 12 dJ3_circularClear_24 (by decide) ?_
    exact V.weak hf (by omega) (by omega)
theorem b_J3_circularClear {G : Gt} {h : Hp} {mc ms : Nat} {r_0 : Option Nat} {i_1 : Int32} {i_2 : Int32} {K : Hp → Prop} (hG : Base G) (hf : ∀ E : Ev, V G E Y_J3_circularClear cJ3_circularClear 4 (QM G E (kV K) xN) h mc ms 0 [(0, va_rf r_0), (1, .int i_1), (2, .int i_2)] []) : MM G Y_J3_circularClear cJ3_circularClear 4 mc ms [va_rf r_0, .int i_1, .int i_2] h (kV K) xN := mm_of hG (by decide +kernel) rfl (ac_c (rf_cat _) (ac_c rfl (ac_c rfl ac_nil))) (Nat.le_of_ble_eq_true rfl) (fun E _ _ => hf E)
abbrev Y_J3_clear : Yt := (yJ3_clear, none, 2, 63, [])
def f_J3_clear (G : Gt) (h : Hp) (k n : Nat) (t_0 : Option Nat) (K : Hp → Prop) : Prop :=
gR h t_0 12 0 fun r1 =>
gI h t_0 12 1 fun i6 =>
gI h t_0 12 2 fun i11 =>
dV G Y_J3_circularClear cJ3_circularClear 4 [va_rf r1, .int i6, .int i11] h k n (fun h16 k19 n20 =>
pF h16 t_0 12 2 (.int (0 : Int32)) fun h23 =>
pF h23 t_0 12 1 (.int (0 : Int32)) fun h26 =>
K h26) xN
theorem m_J3_clear {G : Gt} {h : Hp} {mc ms : Nat} {a0 : Nat} {K : Hp → Prop} (hG : Base G) (hA : 0 ≤ mc) (hB : 0 ≤ ms) (hf : f_J3_clear G h (mc - 0) (ms - 0) (some a0) K) : MM G Y_J3_clear cJ3_clear 1 mc ms [.ref a0] h (kV K) xN := by
  refine mm_of hG (by decide +kernel) rfl (ac_c rfl ac_nil) (Nat.le_of_ble_eq_true rfl) (fun E _ _ => ?_)
  obtain ⟨k, hk9⟩ : ∃ z, z = mc - 0 := ⟨_, rfl⟩
  obtain ⟨n, hn9⟩ : ∃ z, z = ms - 0 := ⟨_, rfl⟩
  rw [← hk9, ← hn9] at hf
  refine V.weak (k' := k + 0) (n' := n + 0) ?_ (by omega) (by omega)
  show V G E Y_J3_clear cJ3_clear 1 (QM G E (kV K) xN) h (k + 0) (n + 0) 0 [(0, .ref a0)] []
  unfold f_J3_clear at hf
  refine v_qload_n (r := (some a0)) (i := 0) dJ3_clear_0 rfl rfl ?_
  replace hf := gR_e hf
  obtain ⟨w2, fs3, r1, hh4, hk5, hf⟩ := hf
  refine v_getf (T := TJ3) (ci := 12) 0 dJ3_clear_1 q231 rfl in_J3 (Nat.le_of_ble_eq_true rfl) (Or.inl rfl) hh4 hk5 ?_
  refine v_qload_n (r := (some a0)) (i := 0) dJ3_clear_4 rfl rfl ?_
  replace hf := gI_e hf
  obtain ⟨w7, fs8, i6, hh9, hk10, hf⟩ := hf
  refine v_getf (T := TJ3) (ci := 12) 1 dJ3_clear_5 q232 rfl in_J3 (Nat.le_of_ble_eq_true rfl) (Or.inl rfl) hh9 hk10 ?_
  refine v_qload_n (r := (some a0)) (i := 0) dJ3_clear_8 rfl rfl ?_
  replace hf := gI_e hf
  obtain ⟨w12, fs13, i11, hh14, hk15, hf⟩ := hf
  refine v_getf (T := TJ3) (ci := 12) 2 dJ3_clear_9 q233 rfl in_J3 (Nat.le_of_ble_eq_true rfl) (Or.inl rfl) hh14 hk15 ?_
  obtain ⟨mc17, ms18, hkmc17, hnms18, hM⟩ := hf
  refine V.weak (k' := ((k - mc17) + 0) + mc17) (n' := ((n - ms18) + 0) + ms18) ?_ (by omega) (by omega)
  refine v_callS 3 dJ3_clear_12 hM rfl (lw_S q2479 q2480 q93 q2481) rfl (by decide +kernel) (by decide) rfl (cat_len (Nat.le_of_ble_eq_true rfl)) (kk_V fun h16 hg => ?_) (fun _ _ _ hx => hx.elim)
  have hf := hg
  clear hg
  refine v_qload_n (r := (some a0)) (i := 0) dJ3_clear_15 rfl rfl ?_
  refine v_qload_n (r := (some a0)) (i := 0) dJ3_clear_16 rfl rfl ?_
  refine v_iconst (v := 0) dJ3_clear_17 (by decide) ?_
  refine v_dup_x1 dJ3_clear_18 rfl (rf_cat _) ?_
  replace hf := pF_e hf
  obtain ⟨fs21, hh22, hf⟩ := hf
  refine v_putf (v := .int (0 : Int32)) (T := TJ3) (ci := 12) (ty := .int) 2 dJ3_clear_19 q233 rfl in_J3 tyJ3 tyJ3_ok nmJ3 (Nat.le_of_ble_eq_true rfl) (Or.inl rfl) rfl (by decide +kernel) rfl rfl hh22 ?_
  obtain ⟨h23, eh23⟩ : ∃ z, z = hs h16 a0 (true, .inr (12, fs21.set 2 (.int (0 : Int32)))) := ⟨_, rfl⟩
  try rw [← eh23] at hf
  rw [← eh23]
  replace hf := pF_e hf
  obtain ⟨fs24, hh25, hf⟩ := hf
  refine v_putf (v := .int (0 : Int32)) (T := TJ3) (ci := 12) (ty := .int) 1 dJ3_clear_22 q232 rfl in_J3 tyJ3 tyJ3_ok nmJ3 (Nat.le_of_ble_eq_true rfl) (Or.inl rfl) rfl (by decide +kernel) rfl rfl hh25 ?_
  obtain ⟨h26, eh26⟩ : ∃ z, z = hs h23 a0 (true, .inr (12, fs24.set 1 (.int (0 : Int32)))) := ⟨_, rfl⟩
  try rw [← eh26] at hf
  rw [← eh26]
  exact v_vret dJ3_clear_25 rfl ⟨rfl, hf⟩
