/-! walks printed by tools/mkwalk.py -/
set_option maxRecDepth 100000
abbrev Y_X1_builds : Yt := (yX1_builds, some (.int), 5, 132, [])
def f_X1_builds (G : Gt) (h : Hp) (k n : Nat) (t_0 : Option Nat) (i_1 : Int32) (i_2 : Int32) (i_3 : Int32) (i_4 : Int32) (K : Int32 → Hp → Prop) (X : Nat → Nat → Hp → Prop) : Prop :=
((¬ (i_1 = i_2) → f_X0_refuse G h (0 : Int32) (2 : Int32) i_1 (fun h2 =>
rv h2 t_0 1 (dI G Y_X1_between cX1_between 4 [va_rf t_0, .int i_1, .int i_2] h2 k n (fun i7 h6 k10 n11 =>
((i7 = (-1011 : Int32) → f_X0_refuse G h6 (0 : Int32) (3 : Int32) i7 (fun h13 =>
gR h13 t_0 1 1 fun r14 =>
rv h13 r14 10 (f_J2_size G h13 r14 (fun i24 h23 =>
((¬ (i24 = (16 : Int32)) → f_X0_refuse G h23 (0 : Int32) (1 : Int32) (16 : Int32) (fun h26 =>
gR h26 t_0 1 1 fun r27 =>
nO h26 5 [.int 0, .int 0, .int 0, .int 0, .int 0, .int 0] fun a32 h33 =>
f_X5_init G h33 (some a32) i_1 i_2 i_3 i_4 (fun h34 =>
rv h34 r27 10 (f_J2_add G h34 r27 (some a32) (fun i40 h39 =>
gR h39 t_0 1 1 fun r41 =>
rv h39 r41 10 (f_J2_size G h39 r41 (fun i51 h50 =>
K (i51 - (1 : Int32)) h50)))))) X) ∧
(i24 = (16 : Int32) → f_X0_refuse G h23 (1 : Int32) (1 : Int32) (16 : Int32) (fun h52 =>
gR h52 t_0 1 1 fun r53 =>
nO h52 5 [.int 0, .int 0, .int 0, .int 0, .int 0, .int 0] fun a58 h59 =>
f_X5_init G h59 (some a58) i_1 i_2 i_3 i_4 (fun h60 =>
rv h60 r53 10 (f_J2_add G h60 r53 (some a58) (fun i66 h65 =>
gR h65 t_0 1 1 fun r67 =>
rv h65 r67 10 (f_J2_size G h65 r67 (fun i77 h76 =>
K (i77 - (1 : Int32)) h76)))))) X))))) X) ∧
(¬ (i7 = (-1011 : Int32)) → f_X0_refuse G h6 (1 : Int32) (3 : Int32) i7 (fun h78 =>
gR h78 t_0 1 1 fun r79 =>
rv h78 r79 10 (f_J2_size G h78 r79 (fun i89 h88 =>
((¬ (i89 = (16 : Int32)) → f_X0_refuse G h88 (0 : Int32) (1 : Int32) (16 : Int32) (fun h91 =>
gR h91 t_0 1 1 fun r92 =>
nO h91 5 [.int 0, .int 0, .int 0, .int 0, .int 0, .int 0] fun a97 h98 =>
f_X5_init G h98 (some a97) i_1 i_2 i_3 i_4 (fun h99 =>
rv h99 r92 10 (f_J2_add G h99 r92 (some a97) (fun i105 h104 =>
gR h104 t_0 1 1 fun r106 =>
rv h104 r106 10 (f_J2_size G h104 r106 (fun i116 h115 =>
K (i116 - (1 : Int32)) h115)))))) X) ∧
(i89 = (16 : Int32) → f_X0_refuse G h88 (1 : Int32) (1 : Int32) (16 : Int32) (fun h117 =>
gR h117 t_0 1 1 fun r118 =>
nO h117 5 [.int 0, .int 0, .int 0, .int 0, .int 0, .int 0] fun a123 h124 =>
f_X5_init G h124 (some a123) i_1 i_2 i_3 i_4 (fun h125 =>
rv h125 r118 10 (f_J2_add G h125 r118 (some a123) (fun i131 h130 =>
gR h130 t_0 1 1 fun r132 =>
rv h130 r132 10 (f_J2_size G h130 r132 (fun i142 h141 =>
K (i142 - (1 : Int32)) h141)))))) X))))) X))) xN)) X) ∧
(i_1 = i_2 → f_X0_refuse G h (1 : Int32) (2 : Int32) i_1 (fun h143 =>
rv h143 t_0 1 (dI G Y_X1_between cX1_between 4 [va_rf t_0, .int i_1, .int i_2] h143 k n (fun i148 h147 k151 n152 =>
((i148 = (-1011 : Int32) → f_X0_refuse G h147 (0 : Int32) (3 : Int32) i148 (fun h154 =>
gR h154 t_0 1 1 fun r155 =>
rv h154 r155 10 (f_J2_size G h154 r155 (fun i165 h164 =>
((¬ (i165 = (16 : Int32)) → f_X0_refuse G h164 (0 : Int32) (1 : Int32) (16 : Int32) (fun h167 =>
gR h167 t_0 1 1 fun r168 =>
nO h167 5 [.int 0, .int 0, .int 0, .int 0, .int 0, .int 0] fun a173 h174 =>
f_X5_init G h174 (some a173) i_1 i_2 i_3 i_4 (fun h175 =>
rv h175 r168 10 (f_J2_add G h175 r168 (some a173) (fun i181 h180 =>
gR h180 t_0 1 1 fun r182 =>
rv h180 r182 10 (f_J2_size G h180 r182 (fun i192 h191 =>
K (i192 - (1 : Int32)) h191)))))) X) ∧
(i165 = (16 : Int32) → f_X0_refuse G h164 (1 : Int32) (1 : Int32) (16 : Int32) (fun h193 =>
gR h193 t_0 1 1 fun r194 =>
nO h193 5 [.int 0, .int 0, .int 0, .int 0, .int 0, .int 0] fun a199 h200 =>
f_X5_init G h200 (some a199) i_1 i_2 i_3 i_4 (fun h201 =>
rv h201 r194 10 (f_J2_add G h201 r194 (some a199) (fun i207 h206 =>
gR h206 t_0 1 1 fun r208 =>
rv h206 r208 10 (f_J2_size G h206 r208 (fun i218 h217 =>
K (i218 - (1 : Int32)) h217)))))) X))))) X) ∧
(¬ (i148 = (-1011 : Int32)) → f_X0_refuse G h147 (1 : Int32) (3 : Int32) i148 (fun h219 =>
gR h219 t_0 1 1 fun r220 =>
rv h219 r220 10 (f_J2_size G h219 r220 (fun i230 h229 =>
((¬ (i230 = (16 : Int32)) → f_X0_refuse G h229 (0 : Int32) (1 : Int32) (16 : Int32) (fun h232 =>
gR h232 t_0 1 1 fun r233 =>
nO h232 5 [.int 0, .int 0, .int 0, .int 0, .int 0, .int 0] fun a238 h239 =>
f_X5_init G h239 (some a238) i_1 i_2 i_3 i_4 (fun h240 =>
rv h240 r233 10 (f_J2_add G h240 r233 (some a238) (fun i246 h245 =>
gR h245 t_0 1 1 fun r247 =>
rv h245 r247 10 (f_J2_size G h245 r247 (fun i257 h256 =>
K (i257 - (1 : Int32)) h256)))))) X) ∧
(i230 = (16 : Int32) → f_X0_refuse G h229 (1 : Int32) (1 : Int32) (16 : Int32) (fun h258 =>
gR h258 t_0 1 1 fun r259 =>
nO h258 5 [.int 0, .int 0, .int 0, .int 0, .int 0, .int 0] fun a264 h265 =>
f_X5_init G h265 (some a264) i_1 i_2 i_3 i_4 (fun h266 =>
rv h266 r259 10 (f_J2_add G h266 r259 (some a264) (fun i272 h271 =>
gR h271 t_0 1 1 fun r273 =>
rv h271 r273 10 (f_J2_size G h271 r273 (fun i283 h282 =>
K (i283 - (1 : Int32)) h282)))))) X))))) X))) xN)) X))
theorem m_X1_builds {G : Gt} {h : Hp} {mc ms : Nat} {a0 : Nat} {i_1 : Int32} {i_2 : Int32} {i_3 : Int32} {i_4 : Int32} {K : Int32 → Hp → Prop} {X : Nat → Nat → Hp → Prop} (hG : Base G) (hA : 4 ≤ mc) (hB : 30 ≤ ms) (hf : f_X1_builds G h (mc - 4) (ms - 30) (some a0) i_1 i_2 i_3 i_4 K X) : MM G Y_X1_builds cX1_builds 6 mc ms [.ref a0, .int i_1, .int i_2, .int i_3, .int i_4] h (kI K) X := by
  refine mm_of hG (by decide +kernel) rfl (ac_c rfl (ac_c rfl (ac_c rfl (ac_c rfl (ac_c rfl ac_nil))))) (Nat.le_of_ble_eq_true rfl) (fun E _ _ => ?_)
  obtain ⟨k, hk9⟩ : ∃ z, z = mc - 4 := ⟨_, rfl⟩
  obtain ⟨n, hn9⟩ : ∃ z, z = ms - 30 := ⟨_, rfl⟩
  rw [← hk9, ← hn9] at hf
  refine V.weak (k' := k + 4) (n' := n + 30) ?_ (by omega) (by omega)
  show V G E Y_X1_builds cX1_builds 6 (QM G E (kI K) X) h (k + 4) (n + 30) 0 [(0, .ref a0), (1, .int i_1), (2, .int i_2), (3, .int i_3), (4, .int i_4)] []
  unfold f_X1_builds at hf
  refine v_iload_n (i := 1) dX1_builds_0 rfl rfl ?_
  refine v_iload_n (i := 2) dX1_builds_1 rfl rfl ?_
  refine v_icmp_ne 9 dX1_builds_2 (by decide) (fun c1 => ?_) (fun c1 => ?_)
  · replace hf := hf.1 c1
    refine v_iconst (v := 0) dX1_builds_9 (by decide) ?_
    refine v_iconst (v := 2) dX1_builds_10 (by decide) ?_
    refine v_iload_n (i := 1) dX1_builds_11 rfl rfl ?_
    refine v_callSN (mc := 1) (ms := 8) 3 dX1_builds_12 (m_X0_refuse hG hf) rfl (lw_meth q514) q88 q512 q513 rfl (by decide +kernel) (by decide) rfl (cat_len (Nat.le_of_ble_eq_true rfl)) (kk_V fun h2 hg => ?_) (fun _ _ _ hx => vx_leave (by decide) hx)
    replace hf := hg
    clear hg
    refine v_qload_n (r := (some a0)) (i := 0) dX1_builds_15 rfl rfl ?_
    refine v_iload_n (i := 1) dX1_builds_16 rfl rfl ?_
    refine v_iload_n (i := 2) dX1_builds_17 rfl rfl ?_
    replace hf := rv_e hf
    obtain ⟨w3, fs4, hh5, hf⟩ := hf
    obtain ⟨mc8, ms9, hkmc8, hnms9, hM⟩ := hf
    refine V.weak (k' := ((k - mc8) + 3) + mc8) (n' := ((n - ms9) + 22) + ms9) ?_ (by omega) (by omega)
    refine v_callV 2 dX1_builds_18 hM rfl hh5 rfl (lw_V q656 q658 qs8 q89 q659) rfl (by decide +kernel) (by decide) rfl (cat_len (Nat.le_of_ble_eq_true rfl)) (kk_I fun i7 h6 hg => ?_) (fun _ _ _ hx => hx.elim)
    have hf := hg
    clear hg
    refine v_istore (i := 5) (lv' := [(0, va_rf (some a0)), (1, .int i_1), (2, .int i_2), (3, .int i_3), (4, .int i_4), (5, .int i7)]) dX1_builds_21 (Nat.le_of_ble_eq_true rfl) rfl rfl ?_
    refine v_iload (i := 5) dX1_builds_23 rfl ?_
    refine v_sipush (v := -1011) dX1_builds_25 (by decide) ?_
    refine v_icmp_eq 35 dX1_builds_28 (by decide) (fun c12 => ?_) (fun c12 => ?_)
    · replace hf := hf.1 c12
      refine v_iconst (v := 0) dX1_builds_35 (by decide) ?_
      refine v_iconst (v := 3) dX1_builds_36 (by decide) ?_
      refine v_iload (i := 5) dX1_builds_37 rfl ?_
      refine v_callSN (mc := 1) (ms := 8) 3 dX1_builds_39 (m_X0_refuse hG hf) rfl (lw_meth q514) q88 q512 q513 rfl (by decide +kernel) (by decide) rfl (cat_len (Nat.le_of_ble_eq_true rfl)) (kk_V fun h13 hg => ?_) (fun _ _ _ hx => vx_leave (by decide) hx)
      replace hf := hg
      clear hg
      refine v_qload_n (r := (some a0)) (i := 0) dX1_builds_42 rfl rfl ?_
      replace hf := gR_e hf
      obtain ⟨w15, fs16, r14, hh17, hk18, hf⟩ := hf
      refine v_getf (T := TX1) (ci := 1) 1 dX1_builds_43 q190 rfl in_X1 (Nat.le_of_ble_eq_true rfl) (Or.inl rfl) hh17 hk18 ?_
      obtain ⟨a19, rfl⟩ := rv_s hf
      replace hf := rv_e hf
      obtain ⟨w20, fs21, hh22, hf⟩ := hf
      refine V.addK0 ?_
      refine V.addN0 ?_
      refine v_callV (mc := 0) (ms := 0) 0 dX1_builds_46 (m_J2_size hG hf) rfl hh22 rfl (lw_V q508 q509 q510 q92 q511) rfl (by decide +kernel) (by decide) rfl (cat_len (Nat.le_of_ble_eq_true rfl)) (kk_I fun i24 h23 hg => ?_) (fun _ _ _ hx => hx.elim)
      replace hf := hg
      clear hg
      refine v_bipush (v := 16) dX1_builds_49 (by decide) ?_
      refine v_icmp_ne 58 dX1_builds_51 (by decide) (fun c25 => ?_) (fun c25 => ?_)
      · replace hf := hf.1 c25
        refine v_iconst (v := 0) dX1_builds_58 (by decide) ?_
        refine v_iconst (v := 1) dX1_builds_59 (by decide) ?_
        refine v_bipush (v := 16) dX1_builds_60 (by decide) ?_
        refine v_callSN (mc := 1) (ms := 8) 3 dX1_builds_62 (m_X0_refuse hG hf) rfl (lw_meth q514) q88 q512 q513 rfl (by decide +kernel) (by decide) rfl (cat_len (Nat.le_of_ble_eq_true rfl)) (kk_V fun h26 hg => ?_) (fun _ _ _ hx => vx_leave (by decide) hx)
        replace hf := hg
        clear hg
        refine v_qload_n (r := (some a0)) (i := 0) dX1_builds_65 rfl rfl ?_
        replace hf := gR_e hf
        obtain ⟨w28, fs29, r27, hh30, hk31, hf⟩ := hf
        refine v_getf (T := TX1) (ci := 1) 1 dX1_builds_66 q190 rfl in_X1 (Nat.le_of_ble_eq_true rfl) (Or.inl rfl) hh30 hk31 ?_
        refine v_new (N := 6) (fs := [.int 0, .int 0, .int 0, .int 0, .int 0, .int 0]) (ci := 5) dX1_builds_69 q499 q682 q110 rfl in_X5 tyX5 tyX5_ok rfl (fun a32 ha32 => ?_)
        replace hf := hf a32 ha32
        obtain ⟨h33, eh33⟩ : ∃ z, z = hs h26 a32 (true, .inr (5, [.int 0, .int 0, .int 0, .int 0, .int 0, .int 0])) := ⟨_, rfl⟩
        try rw [← eh33] at hf
        rw [← eh33]
        refine v_dup dX1_builds_72 rfl ?_
        refine v_iload_n (i := 1) dX1_builds_73 rfl rfl ?_
        refine v_iload_n (i := 2) dX1_builds_74 rfl rfl ?_
        refine v_iload_n (i := 3) dX1_builds_75 rfl rfl ?_
        refine v_iload (i := 4) dX1_builds_76 rfl ?_
        refine V.addK0 ?_
        refine V.addN0 ?_
        refine v_callI (mc := 0) (ms := 0) 4 dX1_builds_78 (m_X5_init hG hf) rfl (lw_meth q685) rfl q110 q683 q684 rfl rfl (by decide +kernel) (by decide) rfl (cat_len (Nat.le_of_ble_eq_true rfl)) (kk_V fun h34 hg => ?_) (fun _ _ _ hx => hx.elim)
        replace hf := hg
        clear hg
        obtain ⟨a35, rfl⟩ := rv_s hf
        replace hf := rv_e hf
        obtain ⟨w36, fs37, hh38, hf⟩ := hf
        refine V.addK0 ?_
        refine V.addN0 ?_
        refine v_callV (mc := 0) (ms := 0) 1 dX1_builds_81 (m_J2_add hG hf) rfl hh38 rfl (lw_V q422 q423 q424 q92 q425) rfl (by decide +kernel) (by decide) rfl (cat_len (Nat.le_of_ble_eq_true rfl)) (kk_I fun i40 h39 hg => ?_) (fun _ _ _ hx => hx.elim)
        replace hf := hg
        clear hg
        refine v_pop dX1_builds_84 rfl ?_
        refine v_qload_n (r := (some a0)) (i := 0) dX1_builds_85 rfl rfl ?_
        replace hf := gR_e hf
        obtain ⟨w42, fs43, r41, hh44, hk45, hf⟩ := hf
        refine v_getf (T := TX1) (ci := 1) 1 dX1_builds_86 q190 rfl in_X1 (Nat.le_of_ble_eq_true rfl) (Or.inl rfl) hh44 hk45 ?_
        obtain ⟨a46, rfl⟩ := rv_s hf
        replace hf := rv_e hf
        obtain ⟨w47, fs48, hh49, hf⟩ := hf
        refine V.addK0 ?_
        refine V.addN0 ?_
        refine v_callV (mc := 0) (ms := 0) 0 dX1_builds_89 (m_J2_size hG hf) rfl hh49 rfl (lw_V q508 q509 q510 q92 q511) rfl (by decide +kernel) (by decide) rfl (cat_len (Nat.le_of_ble_eq_true rfl)) (kk_I fun i51 h50 hg => ?_) (fun _ _ _ hx => hx.elim)
        replace hf := hg
        clear hg
        refine v_iconst (v := 1) dX1_builds_92 (by decide) ?_
        refine v_isub dX1_builds_93 ?_
        exact v_iret dX1_builds_94 rfl ⟨_, rfl, hf⟩
      · replace hf := hf.2 c25
        refine v_iconst (v := 1) dX1_builds_54 (by decide) ?_
        refine v_goto 59 dX1_builds_55 (by decide) ?_
        refine v_iconst (v := 1) dX1_builds_59 (by decide) ?_
        refine v_bipush (v := 16) dX1_builds_60 (by decide) ?_
        refine v_callSN (mc := 1) (ms := 8) 3 dX1_builds_62 (m_X0_refuse hG hf) rfl (lw_meth q514) q88 q512 q513 rfl (by decide +kernel) (by decide) rfl (cat_len (Nat.le_of_ble_eq_true rfl)) (kk_V fun h52 hg => ?_) (fun _ _ _ hx => vx_leave (by decide) hx)
        replace hf := hg
        clear hg
        refine v_qload_n (r := (some a0)) (i := 0) dX1_builds_65 rfl rfl ?_
        replace hf := gR_e hf
        obtain ⟨w54, fs55, r53, hh56, hk57, hf⟩ := hf
        refine v_getf (T := TX1) (ci := 1) 1 dX1_builds_66 q190 rfl in_X1 (Nat.le_of_ble_eq_true rfl) (Or.inl rfl) hh56 hk57 ?_
        refine v_new (N := 6) (fs := [.int 0, .int 0, .int 0, .int 0, .int 0, .int 0]) (ci := 5) dX1_builds_69 q499 q682 q110 rfl in_X5 tyX5 tyX5_ok rfl (fun a58 ha58 => ?_)
        replace hf := hf a58 ha58
        obtain ⟨h59, eh59⟩ : ∃ z, z = hs h52 a58 (true, .inr (5, [.int 0, .int 0, .int 0, .int 0, .int 0, .int 0])) := ⟨_, rfl⟩
        try rw [← eh59] at hf
        rw [← eh59]
        refine v_dup dX1_builds_72 rfl ?_
        refine v_iload_n (i := 1) dX1_builds_73 rfl rfl ?_
        refine v_iload_n (i := 2) dX1_builds_74 rfl rfl ?_
        refine v_iload_n (i := 3) dX1_builds_75 rfl rfl ?_
        refine v_iload (i := 4) dX1_builds_76 rfl ?_
        refine V.addK0 ?_
        refine V.addN0 ?_
        refine v_callI (mc := 0) (ms := 0) 4 dX1_builds_78 (m_X5_init hG hf) rfl (lw_meth q685) rfl q110 q683 q684 rfl rfl (by decide +kernel) (by decide) rfl (cat_len (Nat.le_of_ble_eq_true rfl)) (kk_V fun h60 hg => ?_) (fun _ _ _ hx => hx.elim)
        replace hf := hg
        clear hg
        obtain ⟨a61, rfl⟩ := rv_s hf
        replace hf := rv_e hf
        obtain ⟨w62, fs63, hh64, hf⟩ := hf
        refine V.addK0 ?_
        refine V.addN0 ?_
        refine v_callV (mc := 0) (ms := 0) 1 dX1_builds_81 (m_J2_add hG hf) rfl hh64 rfl (lw_V q422 q423 q424 q92 q425) rfl (by decide +kernel) (by decide) rfl (cat_len (Nat.le_of_ble_eq_true rfl)) (kk_I fun i66 h65 hg => ?_) (fun _ _ _ hx => hx.elim)
        replace hf := hg
        clear hg
        refine v_pop dX1_builds_84 rfl ?_
        refine v_qload_n (r := (some a0)) (i := 0) dX1_builds_85 rfl rfl ?_
        replace hf := gR_e hf
        obtain ⟨w68, fs69, r67, hh70, hk71, hf⟩ := hf
        refine v_getf (T := TX1) (ci := 1) 1 dX1_builds_86 q190 rfl in_X1 (Nat.le_of_ble_eq_true rfl) (Or.inl rfl) hh70 hk71 ?_
        obtain ⟨a72, rfl⟩ := rv_s hf
        replace hf := rv_e hf
        obtain ⟨w73, fs74, hh75, hf⟩ := hf
        refine V.addK0 ?_
        refine V.addN0 ?_
        refine v_callV (mc := 0) (ms := 0) 0 dX1_builds_89 (m_J2_size hG hf) rfl hh75 rfl (lw_V q508 q509 q510 q92 q511) rfl (by decide +kernel) (by decide) rfl (cat_len (Nat.le_of_ble_eq_true rfl)) (kk_I fun i77 h76 hg => ?_) (fun _ _ _ hx => hx.elim)
        replace hf := hg
        clear hg
        refine v_iconst (v := 1) dX1_builds_92 (by decide) ?_
        refine v_isub dX1_builds_93 ?_
        exact v_iret dX1_builds_94 rfl ⟨_, rfl, hf⟩
    · replace hf := hf.2 c12
      refine v_iconst (v := 1) dX1_builds_31 (by decide) ?_
      refine v_goto 36 dX1_builds_32 (by decide) ?_
      refine v_iconst (v := 3) dX1_builds_36 (by decide) ?_
      refine v_iload (i := 5) dX1_builds_37 rfl ?_
      refine v_callSN (mc := 1) (ms := 8) 3 dX1_builds_39 (m_X0_refuse hG hf) rfl (lw_meth q514) q88 q512 q513 rfl (by decide +kernel) (by decide) rfl (cat_len (Nat.le_of_ble_eq_true rfl)) (kk_V fun h78 hg => ?_) (fun _ _ _ hx => vx_leave (by decide) hx)
      replace hf := hg
      clear hg
      refine v_qload_n (r := (some a0)) (i := 0) dX1_builds_42 rfl rfl ?_
      replace hf := gR_e hf
      obtain ⟨w80, fs81, r79, hh82, hk83, hf⟩ := hf
      refine v_getf (T := TX1) (ci := 1) 1 dX1_builds_43 q190 rfl in_X1 (Nat.le_of_ble_eq_true rfl) (Or.inl rfl) hh82 hk83 ?_
      obtain ⟨a84, rfl⟩ := rv_s hf
      replace hf := rv_e hf
      obtain ⟨w85, fs86, hh87, hf⟩ := hf
      refine V.addK0 ?_
      refine V.addN0 ?_
      refine v_callV (mc := 0) (ms := 0) 0 dX1_builds_46 (m_J2_size hG hf) rfl hh87 rfl (lw_V q508 q509 q510 q92 q511) rfl (by decide +kernel) (by decide) rfl (cat_len (Nat.le_of_ble_eq_true rfl)) (kk_I fun i89 h88 hg => ?_) (fun _ _ _ hx => hx.elim)
      replace hf := hg
      clear hg
      refine v_bipush (v := 16) dX1_builds_49 (by decide) ?_
      refine v_icmp_ne 58 dX1_builds_51 (by decide) (fun c90 => ?_) (fun c90 => ?_)
      · replace hf := hf.1 c90
        refine v_iconst (v := 0) dX1_builds_58 (by decide) ?_
        refine v_iconst (v := 1) dX1_builds_59 (by decide) ?_
        refine v_bipush (v := 16) dX1_builds_60 (by decide) ?_
        refine v_callSN (mc := 1) (ms := 8) 3 dX1_builds_62 (m_X0_refuse hG hf) rfl (lw_meth q514) q88 q512 q513 rfl (by decide +kernel) (by decide) rfl (cat_len (Nat.le_of_ble_eq_true rfl)) (kk_V fun h91 hg => ?_) (fun _ _ _ hx => vx_leave (by decide) hx)
        replace hf := hg
        clear hg
        refine v_qload_n (r := (some a0)) (i := 0) dX1_builds_65 rfl rfl ?_
        replace hf := gR_e hf
        obtain ⟨w93, fs94, r92, hh95, hk96, hf⟩ := hf
        refine v_getf (T := TX1) (ci := 1) 1 dX1_builds_66 q190 rfl in_X1 (Nat.le_of_ble_eq_true rfl) (Or.inl rfl) hh95 hk96 ?_
        refine v_new (N := 6) (fs := [.int 0, .int 0, .int 0, .int 0, .int 0, .int 0]) (ci := 5) dX1_builds_69 q499 q682 q110 rfl in_X5 tyX5 tyX5_ok rfl (fun a97 ha97 => ?_)
        replace hf := hf a97 ha97
        obtain ⟨h98, eh98⟩ : ∃ z, z = hs h91 a97 (true, .inr (5, [.int 0, .int 0, .int 0, .int 0, .int 0, .int 0])) := ⟨_, rfl⟩
        try rw [← eh98] at hf
        rw [← eh98]
        refine v_dup dX1_builds_72 rfl ?_
        refine v_iload_n (i := 1) dX1_builds_73 rfl rfl ?_
        refine v_iload_n (i := 2) dX1_builds_74 rfl rfl ?_
        refine v_iload_n (i := 3) dX1_builds_75 rfl rfl ?_
        refine v_iload (i := 4) dX1_builds_76 rfl ?_
        refine V.addK0 ?_
        refine V.addN0 ?_
        refine v_callI (mc := 0) (ms := 0) 4 dX1_builds_78 (m_X5_init hG hf) rfl (lw_meth q685) rfl q110 q683 q684 rfl rfl (by decide +kernel) (by decide) rfl (cat_len (Nat.le_of_ble_eq_true rfl)) (kk_V fun h99 hg => ?_) (fun _ _ _ hx => hx.elim)
        replace hf := hg
        clear hg
        obtain ⟨a100, rfl⟩ := rv_s hf
        replace hf := rv_e hf
        obtain ⟨w101, fs102, hh103, hf⟩ := hf
        refine V.addK0 ?_
        refine V.addN0 ?_
        refine v_callV (mc := 0) (ms := 0) 1 dX1_builds_81 (m_J2_add hG hf) rfl hh103 rfl (lw_V q422 q423 q424 q92 q425) rfl (by decide +kernel) (by decide) rfl (cat_len (Nat.le_of_ble_eq_true rfl)) (kk_I fun i105 h104 hg => ?_) (fun _ _ _ hx => hx.elim)
        replace hf := hg
        clear hg
        refine v_pop dX1_builds_84 rfl ?_
        refine v_qload_n (r := (some a0)) (i := 0) dX1_builds_85 rfl rfl ?_
        replace hf := gR_e hf
        obtain ⟨w107, fs108, r106, hh109, hk110, hf⟩ := hf
        refine v_getf (T := TX1) (ci := 1) 1 dX1_builds_86 q190 rfl in_X1 (Nat.le_of_ble_eq_true rfl) (Or.inl rfl) hh109 hk110 ?_
        obtain ⟨a111, rfl⟩ := rv_s hf
        replace hf := rv_e hf
        obtain ⟨w112, fs113, hh114, hf⟩ := hf
        refine V.addK0 ?_
        refine V.addN0 ?_
        refine v_callV (mc := 0) (ms := 0) 0 dX1_builds_89 (m_J2_size hG hf) rfl hh114 rfl (lw_V q508 q509 q510 q92 q511) rfl (by decide +kernel) (by decide) rfl (cat_len (Nat.le_of_ble_eq_true rfl)) (kk_I fun i116 h115 hg => ?_) (fun _ _ _ hx => hx.elim)
        replace hf := hg
        clear hg
        refine v_iconst (v := 1) dX1_builds_92 (by decide) ?_
        refine v_isub dX1_builds_93 ?_
        exact v_iret dX1_builds_94 rfl ⟨_, rfl, hf⟩
      · replace hf := hf.2 c90
        refine v_iconst (v := 1) dX1_builds_54 (by decide) ?_
        refine v_goto 59 dX1_builds_55 (by decide) ?_
        refine v_iconst (v := 1) dX1_builds_59 (by decide) ?_
        refine v_bipush (v := 16) dX1_builds_60 (by decide) ?_
        refine v_callSN (mc := 1) (ms := 8) 3 dX1_builds_62 (m_X0_refuse hG hf) rfl (lw_meth q514) q88 q512 q513 rfl (by decide +kernel) (by decide) rfl (cat_len (Nat.le_of_ble_eq_true rfl)) (kk_V fun h117 hg => ?_) (fun _ _ _ hx => vx_leave (by decide) hx)
        replace hf := hg
        clear hg
        refine v_qload_n (r := (some a0)) (i := 0) dX1_builds_65 rfl rfl ?_
        replace hf := gR_e hf
        obtain ⟨w119, fs120, r118, hh121, hk122, hf⟩ := hf
        refine v_getf (T := TX1) (ci := 1) 1 dX1_builds_66 q190 rfl in_X1 (Nat.le_of_ble_eq_true rfl) (Or.inl rfl) hh121 hk122 ?_
        refine v_new (N := 6) (fs := [.int 0, .int 0, .int 0, .int 0, .int 0, .int 0]) (ci := 5) dX1_builds_69 q499 q682 q110 rfl in_X5 tyX5 tyX5_ok rfl (fun a123 ha123 => ?_)
        replace hf := hf a123 ha123
        obtain ⟨h124, eh124⟩ : ∃ z, z = hs h117 a123 (true, .inr (5, [.int 0, .int 0, .int 0, .int 0, .int 0, .int 0])) := ⟨_, rfl⟩
        try rw [← eh124] at hf
        rw [← eh124]
        refine v_dup dX1_builds_72 rfl ?_
        refine v_iload_n (i := 1) dX1_builds_73 rfl rfl ?_
        refine v_iload_n (i := 2) dX1_builds_74 rfl rfl ?_
        refine v_iload_n (i := 3) dX1_builds_75 rfl rfl ?_
        refine v_iload (i := 4) dX1_builds_76 rfl ?_
        refine V.addK0 ?_
        refine V.addN0 ?_
        refine v_callI (mc := 0) (ms := 0) 4 dX1_builds_78 (m_X5_init hG hf) rfl (lw_meth q685) rfl q110 q683 q684 rfl rfl (by decide +kernel) (by decide) rfl (cat_len (Nat.le_of_ble_eq_true rfl)) (kk_V fun h125 hg => ?_) (fun _ _ _ hx => hx.elim)
        replace hf := hg
        clear hg
        obtain ⟨a126, rfl⟩ := rv_s hf
        replace hf := rv_e hf
        obtain ⟨w127, fs128, hh129, hf⟩ := hf
        refine V.addK0 ?_
        refine V.addN0 ?_
        refine v_callV (mc := 0) (ms := 0) 1 dX1_builds_81 (m_J2_add hG hf) rfl hh129 rfl (lw_V q422 q423 q424 q92 q425) rfl (by decide +kernel) (by decide) rfl (cat_len (Nat.le_of_ble_eq_true rfl)) (kk_I fun i131 h130 hg => ?_) (fun _ _ _ hx => hx.elim)
        replace hf := hg
        clear hg
        refine v_pop dX1_builds_84 rfl ?_
        refine v_qload_n (r := (some a0)) (i := 0) dX1_builds_85 rfl rfl ?_
        replace hf := gR_e hf
        obtain ⟨w133, fs134, r132, hh135, hk136, hf⟩ := hf
        refine v_getf (T := TX1) (ci := 1) 1 dX1_builds_86 q190 rfl in_X1 (Nat.le_of_ble_eq_true rfl) (Or.inl rfl) hh135 hk136 ?_
        obtain ⟨a137, rfl⟩ := rv_s hf
        replace hf := rv_e hf
        obtain ⟨w138, fs139, hh140, hf⟩ := hf
        refine V.addK0 ?_
        refine V.addN0 ?_
        refine v_callV (mc := 0) (ms := 0) 0 dX1_builds_89 (m_J2_size hG hf) rfl hh140 rfl (lw_V q508 q509 q510 q92 q511) rfl (by decide +kernel) (by decide) rfl (cat_len (Nat.le_of_ble_eq_true rfl)) (kk_I fun i142 h141 hg => ?_) (fun _ _ _ hx => hx.elim)
        replace hf := hg
        clear hg
        refine v_iconst (v := 1) dX1_builds_92 (by decide) ?_
        refine v_isub dX1_builds_93 ?_
        exact v_iret dX1_builds_94 rfl ⟨_, rfl, hf⟩
  · replace hf := hf.2 c1
    refine v_iconst (v := 1) dX1_builds_5 (by decide) ?_
    refine v_goto 10 dX1_builds_6 (by decide) ?_
    refine v_iconst (v := 2) dX1_builds_10 (by decide) ?_
    refine v_iload_n (i := 1) dX1_builds_11 rfl rfl ?_
    refine v_callSN (mc := 1) (ms := 8) 3 dX1_builds_12 (m_X0_refuse hG hf) rfl (lw_meth q514) q88 q512 q513 rfl (by decide +kernel) (by decide) rfl (cat_len (Nat.le_of_ble_eq_true rfl)) (kk_V fun h143 hg => ?_) (fun _ _ _ hx => vx_leave (by decide) hx)
    replace hf := hg
    clear hg
    refine v_qload_n (r := (some a0)) (i := 0) dX1_builds_15 rfl rfl ?_
    refine v_iload_n (i := 1) dX1_builds_16 rfl rfl ?_
    refine v_iload_n (i := 2) dX1_builds_17 rfl rfl ?_
    replace hf := rv_e hf
    obtain ⟨w144, fs145, hh146, hf⟩ := hf
    obtain ⟨mc149, ms150, hkmc149, hnms150, hM⟩ := hf
    refine V.weak (k' := ((k - mc149) + 3) + mc149) (n' := ((n - ms150) + 22) + ms150) ?_ (by omega) (by omega)
    refine v_callV 2 dX1_builds_18 hM rfl hh146 rfl (lw_V q656 q658 qs8 q89 q659) rfl (by decide +kernel) (by decide) rfl (cat_len (Nat.le_of_ble_eq_true rfl)) (kk_I fun i148 h147 hg => ?_) (fun _ _ _ hx => hx.elim)
    have hf := hg
    clear hg
    refine v_istore (i := 5) (lv' := [(0, va_rf (some a0)), (1, .int i_1), (2, .int i_2), (3, .int i_3), (4, .int i_4), (5, .int i148)]) dX1_builds_21 (Nat.le_of_ble_eq_true rfl) rfl rfl ?_
    refine v_iload (i := 5) dX1_builds_23 rfl ?_
    refine v_sipush (v := -1011) dX1_builds_25 (by decide) ?_
    refine v_icmp_eq 35 dX1_builds_28 (by decide) (fun c153 => ?_) (fun c153 => ?_)
    · replace hf := hf.1 c153
      refine v_iconst (v := 0) dX1_builds_35 (by decide) ?_
      refine v_iconst (v := 3) dX1_builds_36 (by decide) ?_
      refine v_iload (i := 5) dX1_builds_37 rfl ?_
      refine v_callSN (mc := 1) (ms := 8) 3 dX1_builds_39 (m_X0_refuse hG hf) rfl (lw_meth q514) q88 q512 q513 rfl (by decide +kernel) (by decide) rfl (cat_len (Nat.le_of_ble_eq_true rfl)) (kk_V fun h154 hg => ?_) (fun _ _ _ hx => vx_leave (by decide) hx)
      replace hf := hg
      clear hg
      refine v_qload_n (r := (some a0)) (i := 0) dX1_builds_42 rfl rfl ?_
      replace hf := gR_e hf
      obtain ⟨w156, fs157, r155, hh158, hk159, hf⟩ := hf
      refine v_getf (T := TX1) (ci := 1) 1 dX1_builds_43 q190 rfl in_X1 (Nat.le_of_ble_eq_true rfl) (Or.inl rfl) hh158 hk159 ?_
      obtain ⟨a160, rfl⟩ := rv_s hf
      replace hf := rv_e hf
      obtain ⟨w161, fs162, hh163, hf⟩ := hf
      refine V.addK0 ?_
      refine V.addN0 ?_
      refine v_callV (mc := 0) (ms := 0) 0 dX1_builds_46 (m_J2_size hG hf) rfl hh163 rfl (lw_V q508 q509 q510 q92 q511) rfl (by decide +kernel) (by decide) rfl (cat_len (Nat.le_of_ble_eq_true rfl)) (kk_I fun i165 h164 hg => ?_) (fun _ _ _ hx => hx.elim)
      replace hf := hg
      clear hg
      refine v_bipush (v := 16) dX1_builds_49 (by decide) ?_
      refine v_icmp_ne 58 dX1_builds_51 (by decide) (fun c166 => ?_) (fun c166 => ?_)
      · replace hf := hf.1 c166
        refine v_iconst (v := 0) dX1_builds_58 (by decide) ?_
        refine v_iconst (v := 1) dX1_builds_59 (by decide) ?_
        refine v_bipush (v := 16) dX1_builds_60 (by decide) ?_
        refine v_callSN (mc := 1) (ms := 8) 3 dX1_builds_62 (m_X0_refuse hG hf) rfl (lw_meth q514) q88 q512 q513 rfl (by decide +kernel) (by decide) rfl (cat_len (Nat.le_of_ble_eq_true rfl)) (kk_V fun h167 hg => ?_) (fun _ _ _ hx => vx_leave (by decide) hx)
        replace hf := hg
        clear hg
        refine v_qload_n (r := (some a0)) (i := 0) dX1_builds_65 rfl rfl ?_
        replace hf := gR_e hf
        obtain ⟨w169, fs170, r168, hh171, hk172, hf⟩ := hf
        refine v_getf (T := TX1) (ci := 1) 1 dX1_builds_66 q190 rfl in_X1 (Nat.le_of_ble_eq_true rfl) (Or.inl rfl) hh171 hk172 ?_
        refine v_new (N := 6) (fs := [.int 0, .int 0, .int 0, .int 0, .int 0, .int 0]) (ci := 5) dX1_builds_69 q499 q682 q110 rfl in_X5 tyX5 tyX5_ok rfl (fun a173 ha173 => ?_)
        replace hf := hf a173 ha173
        obtain ⟨h174, eh174⟩ : ∃ z, z = hs h167 a173 (true, .inr (5, [.int 0, .int 0, .int 0, .int 0, .int 0, .int 0])) := ⟨_, rfl⟩
        try rw [← eh174] at hf
        rw [← eh174]
        refine v_dup dX1_builds_72 rfl ?_
        refine v_iload_n (i := 1) dX1_builds_73 rfl rfl ?_
        refine v_iload_n (i := 2) dX1_builds_74 rfl rfl ?_
        refine v_iload_n (i := 3) dX1_builds_75 rfl rfl ?_
        refine v_iload (i := 4) dX1_builds_76 rfl ?_
        refine V.addK0 ?_
        refine V.addN0 ?_
        refine v_callI (mc := 0) (ms := 0) 4 dX1_builds_78 (m_X5_init hG hf) rfl (lw_meth q685) rfl q110 q683 q684 rfl rfl (by decide +kernel) (by decide) rfl (cat_len (Nat.le_of_ble_eq_true rfl)) (kk_V fun h175 hg => ?_) (fun _ _ _ hx => hx.elim)
        replace hf := hg
        clear hg
        obtain ⟨a176, rfl⟩ := rv_s hf
        replace hf := rv_e hf
        obtain ⟨w177, fs178, hh179, hf⟩ := hf
        refine V.addK0 ?_
        refine V.addN0 ?_
        refine v_callV (mc := 0) (ms := 0) 1 dX1_builds_81 (m_J2_add hG hf) rfl hh179 rfl (lw_V q422 q423 q424 q92 q425) rfl (by decide +kernel) (by decide) rfl (cat_len (Nat.le_of_ble_eq_true rfl)) (kk_I fun i181 h180 hg => ?_) (fun _ _ _ hx => hx.elim)
        replace hf := hg
        clear hg
        refine v_pop dX1_builds_84 rfl ?_
        refine v_qload_n (r := (some a0)) (i := 0) dX1_builds_85 rfl rfl ?_
        replace hf := gR_e hf
        obtain ⟨w183, fs184, r182, hh185, hk186, hf⟩ := hf
        refine v_getf (T := TX1) (ci := 1) 1 dX1_builds_86 q190 rfl in_X1 (Nat.le_of_ble_eq_true rfl) (Or.inl rfl) hh185 hk186 ?_
        obtain ⟨a187, rfl⟩ := rv_s hf
        replace hf := rv_e hf
        obtain ⟨w188, fs189, hh190, hf⟩ := hf
        refine V.addK0 ?_
        refine V.addN0 ?_
        refine v_callV (mc := 0) (ms := 0) 0 dX1_builds_89 (m_J2_size hG hf) rfl hh190 rfl (lw_V q508 q509 q510 q92 q511) rfl (by decide +kernel) (by decide) rfl (cat_len (Nat.le_of_ble_eq_true rfl)) (kk_I fun i192 h191 hg => ?_) (fun _ _ _ hx => hx.elim)
        replace hf := hg
        clear hg
        refine v_iconst (v := 1) dX1_builds_92 (by decide) ?_
        refine v_isub dX1_builds_93 ?_
        exact v_iret dX1_builds_94 rfl ⟨_, rfl, hf⟩
      · replace hf := hf.2 c166
        refine v_iconst (v := 1) dX1_builds_54 (by decide) ?_
        refine v_goto 59 dX1_builds_55 (by decide) ?_
        refine v_iconst (v := 1) dX1_builds_59 (by decide) ?_
        refine v_bipush (v := 16) dX1_builds_60 (by decide) ?_
        refine v_callSN (mc := 1) (ms := 8) 3 dX1_builds_62 (m_X0_refuse hG hf) rfl (lw_meth q514) q88 q512 q513 rfl (by decide +kernel) (by decide) rfl (cat_len (Nat.le_of_ble_eq_true rfl)) (kk_V fun h193 hg => ?_) (fun _ _ _ hx => vx_leave (by decide) hx)
        replace hf := hg
        clear hg
        refine v_qload_n (r := (some a0)) (i := 0) dX1_builds_65 rfl rfl ?_
        replace hf := gR_e hf
        obtain ⟨w195, fs196, r194, hh197, hk198, hf⟩ := hf
        refine v_getf (T := TX1) (ci := 1) 1 dX1_builds_66 q190 rfl in_X1 (Nat.le_of_ble_eq_true rfl) (Or.inl rfl) hh197 hk198 ?_
        refine v_new (N := 6) (fs := [.int 0, .int 0, .int 0, .int 0, .int 0, .int 0]) (ci := 5) dX1_builds_69 q499 q682 q110 rfl in_X5 tyX5 tyX5_ok rfl (fun a199 ha199 => ?_)
        replace hf := hf a199 ha199
        obtain ⟨h200, eh200⟩ : ∃ z, z = hs h193 a199 (true, .inr (5, [.int 0, .int 0, .int 0, .int 0, .int 0, .int 0])) := ⟨_, rfl⟩
        try rw [← eh200] at hf
        rw [← eh200]
        refine v_dup dX1_builds_72 rfl ?_
        refine v_iload_n (i := 1) dX1_builds_73 rfl rfl ?_
        refine v_iload_n (i := 2) dX1_builds_74 rfl rfl ?_
        refine v_iload_n (i := 3) dX1_builds_75 rfl rfl ?_
        refine v_iload (i := 4) dX1_builds_76 rfl ?_
        refine V.addK0 ?_
        refine V.addN0 ?_
        refine v_callI (mc := 0) (ms := 0) 4 dX1_builds_78 (m_X5_init hG hf) rfl (lw_meth q685) rfl q110 q683 q684 rfl rfl (by decide +kernel) (by decide) rfl (cat_len (Nat.le_of_ble_eq_true rfl)) (kk_V fun h201 hg => ?_) (fun _ _ _ hx => hx.elim)
        replace hf := hg
        clear hg
        obtain ⟨a202, rfl⟩ := rv_s hf
        replace hf := rv_e hf
        obtain ⟨w203, fs204, hh205, hf⟩ := hf
        refine V.addK0 ?_
        refine V.addN0 ?_
        refine v_callV (mc := 0) (ms := 0) 1 dX1_builds_81 (m_J2_add hG hf) rfl hh205 rfl (lw_V q422 q423 q424 q92 q425) rfl (by decide +kernel) (by decide) rfl (cat_len (Nat.le_of_ble_eq_true rfl)) (kk_I fun i207 h206 hg => ?_) (fun _ _ _ hx => hx.elim)
        replace hf := hg
        clear hg
        refine v_pop dX1_builds_84 rfl ?_
        refine v_qload_n (r := (some a0)) (i := 0) dX1_builds_85 rfl rfl ?_
        replace hf := gR_e hf
        obtain ⟨w209, fs210, r208, hh211, hk212, hf⟩ := hf
        refine v_getf (T := TX1) (ci := 1) 1 dX1_builds_86 q190 rfl in_X1 (Nat.le_of_ble_eq_true rfl) (Or.inl rfl) hh211 hk212 ?_
        obtain ⟨a213, rfl⟩ := rv_s hf
        replace hf := rv_e hf
        obtain ⟨w214, fs215, hh216, hf⟩ := hf
        refine V.addK0 ?_
        refine V.addN0 ?_
        refine v_callV (mc := 0) (ms := 0) 0 dX1_builds_89 (m_J2_size hG hf) rfl hh216 rfl (lw_V q508 q509 q510 q92 q511) rfl (by decide +kernel) (by decide) rfl (cat_len (Nat.le_of_ble_eq_true rfl)) (kk_I fun i218 h217 hg => ?_) (fun _ _ _ hx => hx.elim)
        replace hf := hg
        clear hg
        refine v_iconst (v := 1) dX1_builds_92 (by decide) ?_
        refine v_isub dX1_builds_93 ?_
        exact v_iret dX1_builds_94 rfl ⟨_, rfl, hf⟩
    · replace hf := hf.2 c153
      refine v_iconst (v := 1) dX1_builds_31 (by decide) ?_
      refine v_goto 36 dX1_builds_32 (by decide) ?_
      refine v_iconst (v := 3) dX1_builds_36 (by decide) ?_
      refine v_iload (i := 5) dX1_builds_37 rfl ?_
      refine v_callSN (mc := 1) (ms := 8) 3 dX1_builds_39 (m_X0_refuse hG hf) rfl (lw_meth q514) q88 q512 q513 rfl (by decide +kernel) (by decide) rfl (cat_len (Nat.le_of_ble_eq_true rfl)) (kk_V fun h219 hg => ?_) (fun _ _ _ hx => vx_leave (by decide) hx)
      replace hf := hg
      clear hg
      refine v_qload_n (r := (some a0)) (i := 0) dX1_builds_42 rfl rfl ?_
      replace hf := gR_e hf
      obtain ⟨w221, fs222, r220, hh223, hk224, hf⟩ := hf
      refine v_getf (T := TX1) (ci := 1) 1 dX1_builds_43 q190 rfl in_X1 (Nat.le_of_ble_eq_true rfl) (Or.inl rfl) hh223 hk224 ?_
      obtain ⟨a225, rfl⟩ := rv_s hf
      replace hf := rv_e hf
      obtain ⟨w226, fs227, hh228, hf⟩ := hf
      refine V.addK0 ?_
      refine V.addN0 ?_
      refine v_callV (mc := 0) (ms := 0) 0 dX1_builds_46 (m_J2_size hG hf) rfl hh228 rfl (lw_V q508 q509 q510 q92 q511) rfl (by decide +kernel) (by decide) rfl (cat_len (Nat.le_of_ble_eq_true rfl)) (kk_I fun i230 h229 hg => ?_) (fun _ _ _ hx => hx.elim)
      replace hf := hg
      clear hg
      refine v_bipush (v := 16) dX1_builds_49 (by decide) ?_
      refine v_icmp_ne 58 dX1_builds_51 (by decide) (fun c231 => ?_) (fun c231 => ?_)
      · replace hf := hf.1 c231
        refine v_iconst (v := 0) dX1_builds_58 (by decide) ?_
        refine v_iconst (v := 1) dX1_builds_59 (by decide) ?_
        refine v_bipush (v := 16) dX1_builds_60 (by decide) ?_
        refine v_callSN (mc := 1) (ms := 8) 3 dX1_builds_62 (m_X0_refuse hG hf) rfl (lw_meth q514) q88 q512 q513 rfl (by decide +kernel) (by decide) rfl (cat_len (Nat.le_of_ble_eq_true rfl)) (kk_V fun h232 hg => ?_) (fun _ _ _ hx => vx_leave (by decide) hx)
        replace hf := hg
        clear hg
        refine v_qload_n (r := (some a0)) (i := 0) dX1_builds_65 rfl rfl ?_
        replace hf := gR_e hf
        obtain ⟨w234, fs235, r233, hh236, hk237, hf⟩ := hf
        refine v_getf (T := TX1) (ci := 1) 1 dX1_builds_66 q190 rfl in_X1 (Nat.le_of_ble_eq_true rfl) (Or.inl rfl) hh236 hk237 ?_
        refine v_new (N := 6) (fs := [.int 0, .int 0, .int 0, .int 0, .int 0, .int 0]) (ci := 5) dX1_builds_69 q499 q682 q110 rfl in_X5 tyX5 tyX5_ok rfl (fun a238 ha238 => ?_)
        replace hf := hf a238 ha238
        obtain ⟨h239, eh239⟩ : ∃ z, z = hs h232 a238 (true, .inr (5, [.int 0, .int 0, .int 0, .int 0, .int 0, .int 0])) := ⟨_, rfl⟩
        try rw [← eh239] at hf
        rw [← eh239]
        refine v_dup dX1_builds_72 rfl ?_
        refine v_iload_n (i := 1) dX1_builds_73 rfl rfl ?_
        refine v_iload_n (i := 2) dX1_builds_74 rfl rfl ?_
        refine v_iload_n (i := 3) dX1_builds_75 rfl rfl ?_
        refine v_iload (i := 4) dX1_builds_76 rfl ?_
        refine V.addK0 ?_
        refine V.addN0 ?_
        refine v_callI (mc := 0) (ms := 0) 4 dX1_builds_78 (m_X5_init hG hf) rfl (lw_meth q685) rfl q110 q683 q684 rfl rfl (by decide +kernel) (by decide) rfl (cat_len (Nat.le_of_ble_eq_true rfl)) (kk_V fun h240 hg => ?_) (fun _ _ _ hx => hx.elim)
        replace hf := hg
        clear hg
        obtain ⟨a241, rfl⟩ := rv_s hf
        replace hf := rv_e hf
        obtain ⟨w242, fs243, hh244, hf⟩ := hf
        refine V.addK0 ?_
        refine V.addN0 ?_
        refine v_callV (mc := 0) (ms := 0) 1 dX1_builds_81 (m_J2_add hG hf) rfl hh244 rfl (lw_V q422 q423 q424 q92 q425) rfl (by decide +kernel) (by decide) rfl (cat_len (Nat.le_of_ble_eq_true rfl)) (kk_I fun i246 h245 hg => ?_) (fun _ _ _ hx => hx.elim)
        replace hf := hg
        clear hg
        refine v_pop dX1_builds_84 rfl ?_
        refine v_qload_n (r := (some a0)) (i := 0) dX1_builds_85 rfl rfl ?_
        replace hf := gR_e hf
        obtain ⟨w248, fs249, r247, hh250, hk251, hf⟩ := hf
        refine v_getf (T := TX1) (ci := 1) 1 dX1_builds_86 q190 rfl in_X1 (Nat.le_of_ble_eq_true rfl) (Or.inl rfl) hh250 hk251 ?_
        obtain ⟨a252, rfl⟩ := rv_s hf
        replace hf := rv_e hf
        obtain ⟨w253, fs254, hh255, hf⟩ := hf
        refine V.addK0 ?_
        refine V.addN0 ?_
        refine v_callV (mc := 0) (ms := 0) 0 dX1_builds_89 (m_J2_size hG hf) rfl hh255 rfl (lw_V q508 q509 q510 q92 q511) rfl (by decide +kernel) (by decide) rfl (cat_len (Nat.le_of_ble_eq_true rfl)) (kk_I fun i257 h256 hg => ?_) (fun _ _ _ hx => hx.elim)
        replace hf := hg
        clear hg
        refine v_iconst (v := 1) dX1_builds_92 (by decide) ?_
        refine v_isub dX1_builds_93 ?_
        exact v_iret dX1_builds_94 rfl ⟨_, rfl, hf⟩
      · replace hf := hf.2 c231
        refine v_iconst (v := 1) dX1_builds_54 (by decide) ?_
        refine v_goto 59 dX1_builds_55 (by decide) ?_
        refine v_iconst (v := 1) dX1_builds_59 (by decide) ?_
        refine v_bipush (v := 16) dX1_builds_60 (by decide) ?_
        refine v_callSN (mc := 1) (ms := 8) 3 dX1_builds_62 (m_X0_refuse hG hf) rfl (lw_meth q514) q88 q512 q513 rfl (by decide +kernel) (by decide) rfl (cat_len (Nat.le_of_ble_eq_true rfl)) (kk_V fun h258 hg => ?_) (fun _ _ _ hx => vx_leave (by decide) hx)
        replace hf := hg
        clear hg
        refine v_qload_n (r := (some a0)) (i := 0) dX1_builds_65 rfl rfl ?_
        replace hf := gR_e hf
        obtain ⟨w260, fs261, r259, hh262, hk263, hf⟩ := hf
        refine v_getf (T := TX1) (ci := 1) 1 dX1_builds_66 q190 rfl in_X1 (Nat.le_of_ble_eq_true rfl) (Or.inl rfl) hh262 hk263 ?_
        refine v_new (N := 6) (fs := [.int 0, .int 0, .int 0, .int 0, .int 0, .int 0]) (ci := 5) dX1_builds_69 q499 q682 q110 rfl in_X5 tyX5 tyX5_ok rfl (fun a264 ha264 => ?_)
        replace hf := hf a264 ha264
        obtain ⟨h265, eh265⟩ : ∃ z, z = hs h258 a264 (true, .inr (5, [.int 0, .int 0, .int 0, .int 0, .int 0, .int 0])) := ⟨_, rfl⟩
        try rw [← eh265] at hf
        rw [← eh265]
        refine v_dup dX1_builds_72 rfl ?_
        refine v_iload_n (i := 1) dX1_builds_73 rfl rfl ?_
        refine v_iload_n (i := 2) dX1_builds_74 rfl rfl ?_
        refine v_iload_n (i := 3) dX1_builds_75 rfl rfl ?_
        refine v_iload (i := 4) dX1_builds_76 rfl ?_
        refine V.addK0 ?_
        refine V.addN0 ?_
        refine v_callI (mc := 0) (ms := 0) 4 dX1_builds_78 (m_X5_init hG hf) rfl (lw_meth q685) rfl q110 q683 q684 rfl rfl (by decide +kernel) (by decide) rfl (cat_len (Nat.le_of_ble_eq_true rfl)) (kk_V fun h266 hg => ?_) (fun _ _ _ hx => hx.elim)
        replace hf := hg
        clear hg
        obtain ⟨a267, rfl⟩ := rv_s hf
        replace hf := rv_e hf
        obtain ⟨w268, fs269, hh270, hf⟩ := hf
        refine V.addK0 ?_
        refine V.addN0 ?_
        refine v_callV (mc := 0) (ms := 0) 1 dX1_builds_81 (m_J2_add hG hf) rfl hh270 rfl (lw_V q422 q423 q424 q92 q425) rfl (by decide +kernel) (by decide) rfl (cat_len (Nat.le_of_ble_eq_true rfl)) (kk_I fun i272 h271 hg => ?_) (fun _ _ _ hx => hx.elim)
        replace hf := hg
        clear hg
        refine v_pop dX1_builds_84 rfl ?_
        refine v_qload_n (r := (some a0)) (i := 0) dX1_builds_85 rfl rfl ?_
        replace hf := gR_e hf
        obtain ⟨w274, fs275, r273, hh276, hk277, hf⟩ := hf
        refine v_getf (T := TX1) (ci := 1) 1 dX1_builds_86 q190 rfl in_X1 (Nat.le_of_ble_eq_true rfl) (Or.inl rfl) hh276 hk277 ?_
        obtain ⟨a278, rfl⟩ := rv_s hf
        replace hf := rv_e hf
        obtain ⟨w279, fs280, hh281, hf⟩ := hf
        refine V.addK0 ?_
        refine V.addN0 ?_
        refine v_callV (mc := 0) (ms := 0) 0 dX1_builds_89 (m_J2_size hG hf) rfl hh281 rfl (lw_V q508 q509 q510 q92 q511) rfl (by decide +kernel) (by decide) rfl (cat_len (Nat.le_of_ble_eq_true rfl)) (kk_I fun i283 h282 hg => ?_) (fun _ _ _ hx => hx.elim)
        replace hf := hg
        clear hg
        refine v_iconst (v := 1) dX1_builds_92 (by decide) ?_
        refine v_isub dX1_builds_93 ?_
        exact v_iret dX1_builds_94 rfl ⟨_, rfl, hf⟩
abbrev Y_J1_init_L : Yt := (yJ1_init, none, 2, 60, [])
def f_J1_init_L (G : Gt) (h : Hp) (t_0 : Option Nat) (K : Hp → Prop) : Prop :=
f_J0_init G h t_0 (fun h1 =>
pF h1 t_0 19 0 (.int (0 : Int32)) fun h4 =>
K h4)
theorem m_J1_init_L {G : Gt} {h : Hp} {a0 : Nat} {K : Hp → Prop} (hG : Base G) (hf : f_J1_init_L G h (some a0) K) : MM G Y_J1_init_L cJ1_init 1 0 0 [.ref a0] h (kV K) xN := by
  refine mm_of hG (by decide +kernel) rfl (ac_c rfl ac_nil) (Nat.le_of_ble_eq_true rfl) (fun E _ _ => ?_)
  show V G E Y_J1_init_L cJ1_init 1 (QM G E (kV K) xN) h 0 0 0 [(0, .ref a0)] []
  unfold f_J1_init_L at hf
  refine v_qload_n (r := (some a0)) (i := 0) dJ1_init_0 rfl rfl ?_
  refine V.addK0 ?_
  refine V.addN0 ?_
  refine v_callI (mc := 0) (ms := 0) 0 dJ1_init_1 (m_J0_init hG hf) rfl (lw_meth q165) rfl q90 q163 q164 rfl rfl (by decide +kernel) (by decide) rfl (cat_len (Nat.le_of_ble_eq_true rfl)) (kk_V fun h1 hg => ?_) (fun _ _ _ hx => hx.elim)
  replace hf := hg
  clear hg
  refine v_qload_n (r := (some a0)) (i := 0) dJ1_init_4 rfl rfl ?_
  refine v_iconst (v := 0) dJ1_init_5 (by decide) ?_
  replace hf := pF_e hf
  obtain ⟨fs2, hh3, hf⟩ := hf
  refine v_putf (v := .int (0 : Int32)) (T := TJ27) (ci := 19) (ty := .int) 0 dJ1_init_6 q175 rfl in_J27 tyJ27 tyJ27_ok nmJ27 (Nat.le_of_ble_eq_true rfl) (Or.inl rfl) rfl (by decide +kernel) rfl rfl hh3 ?_
  obtain ⟨h4, eh4⟩ : ∃ z, z = hs h1 a0 (true, .inr (19, fs2.set 0 (.int (0 : Int32)))) := ⟨_, rfl⟩
  try rw [← eh4] at hf
  rw [← eh4]
  exact v_vret dJ1_init_9 rfl ⟨rfl, hf⟩
abbrev Y_J26_init : Yt := (yJ26_init, none, 3, 80, [])
def f_J26_init (G : Gt) (h : Hp) (t_0 : Option Nat) (K : Hp → Prop) : Prop :=
f_J1_init_L G h t_0 (fun h1 =>
K h1)
theorem m_J26_init {G : Gt} {h : Hp} {a0 : Nat} {K : Hp → Prop} (hG : Base G) (hf : f_J26_init G h (some a0) K) : MM G Y_J26_init cJ26_init 1 0 0 [.ref a0] h (kV K) xN := by
  refine mm_of hG (by decide +kernel) rfl (ac_c rfl ac_nil) (Nat.le_of_ble_eq_true rfl) (fun E _ _ => ?_)
  show V G E Y_J26_init cJ26_init 1 (QM G E (kV K) xN) h 0 0 0 [(0, .ref a0)] []
  unfold f_J26_init at hf
  refine v_qload_n (r := (some a0)) (i := 0) dJ26_init_0 rfl rfl ?_
  refine V.addK0 ?_
  refine V.addN0 ?_
  refine v_callI (mc := 0) (ms := 0) 0 dJ26_init_1 (m_J1_init_L hG hf) rfl (lw_meth q162) rfl q91 q874 q161 rfl rfl (by decide +kernel) (by decide) rfl (cat_len (Nat.le_of_ble_eq_true rfl)) (kk_V fun h1 hg => ?_) (fun _ _ _ hx => hx.elim)
  replace hf := hg
  clear hg
  exact v_vret dJ26_init_4 rfl ⟨rfl, hf⟩
abbrev Y_J27_init : Yt := (yJ27_init, none, 4, 100, [])
def f_J27_init (G : Gt) (h : Hp) (t_0 : Option Nat) (K : Hp → Prop) : Prop :=
f_J26_init G h t_0 (fun h1 =>
pF h1 t_0 19 1 (.int (0 : Int32)) fun h4 =>
K h4)
theorem m_J27_init {G : Gt} {h : Hp} {a0 : Nat} {K : Hp → Prop} (hG : Base G) (hf : f_J27_init G h (some a0) K) : MM G Y_J27_init cJ27_init 1 0 0 [.ref a0] h (kV K) xN := by
  refine mm_of hG (by decide +kernel) rfl (ac_c rfl ac_nil) (Nat.le_of_ble_eq_true rfl) (fun E _ _ => ?_)
  show V G E Y_J27_init cJ27_init 1 (QM G E (kV K) xN) h 0 0 0 [(0, .ref a0)] []
  unfold f_J27_init at hf
  refine v_qload_n (r := (some a0)) (i := 0) dJ27_init_0 rfl rfl ?_
  refine V.addK0 ?_
  refine V.addN0 ?_
  refine v_callI (mc := 0) (ms := 0) 0 dJ27_init_1 (m_J26_init hG hf) rfl (lw_meth q873) rfl q121 q871 q872 rfl rfl (by decide +kernel) (by decide) rfl (cat_len (Nat.le_of_ble_eq_true rfl)) (kk_V fun h1 hg => ?_) (fun _ _ _ hx => hx.elim)
  replace hf := hg
  clear hg
  refine v_qload_n (r := (some a0)) (i := 0) dJ27_init_4 rfl rfl ?_
  refine v_iconst (v := 0) dJ27_init_5 (by decide) ?_
  replace hf := pF_e hf
  obtain ⟨fs2, hh3, hf⟩ := hf
  refine v_putf (v := .int (0 : Int32)) (T := TJ27) (ci := 19) (ty := .int) 1 dJ27_init_6 q875 rfl in_J27 tyJ27 tyJ27_ok nmJ27 (Nat.le_of_ble_eq_true rfl) (Or.inl rfl) rfl (by decide +kernel) rfl rfl hh3 ?_
  obtain ⟨h4, eh4⟩ : ∃ z, z = hs h1 a0 (true, .inr (19, fs2.set 1 (.int (0 : Int32)))) := ⟨_, rfl⟩
  try rw [← eh4] at hf
  rw [← eh4]
  exact v_vret dJ27_init_9 rfl ⟨rfl, hf⟩
abbrev Y_J0_isEmpty : Yt := (yJ0_isEmpty, some (.boolean), 2, 60, [])
def f_J0_isEmpty (G : Gt) (h : Hp) (t_0 : Option Nat) (K : Int32 → Hp → Prop) : Prop :=
rv h t_0 10 (f_J2_size G h t_0 (fun i5 h4 =>
((¬ (i5 = 0) → K (0 : Int32) h4) ∧
(i5 = 0 → K (1 : Int32) h4))))
theorem m_J0_isEmpty {G : Gt} {h : Hp} {a0 : Nat} {K : Int32 → Hp → Prop} (hG : Base G) (hf : f_J0_isEmpty G h (some a0) K) : MM G Y_J0_isEmpty cJ0_isEmpty 1 0 0 [.ref a0] h (kI K) xN := by
  refine mm_of hG (by decide +kernel) rfl (ac_c rfl ac_nil) (Nat.le_of_ble_eq_true rfl) (fun E _ _ => ?_)
  show V G E Y_J0_isEmpty cJ0_isEmpty 1 (QM G E (kI K) xN) h 0 0 0 [(0, .ref a0)] []
  unfold f_J0_isEmpty at hf
  refine v_qload_n (r := (some a0)) (i := 0) dJ0_isEmpty_0 rfl rfl ?_
  replace hf := rv_e hf
  obtain ⟨w1, fs2, hh3, hf⟩ := hf
  refine V.addK0 ?_
  refine V.addN0 ?_
  refine v_callA (mc := 0) (ms := 0) 0 dJ0_isEmpty_1 (m_J2_size hG hf) rfl hh3 rfl (lw_U q934 q936 q938 q509 q92 q511) q935 rfl (by decide +kernel) (by decide) rfl (cat_len (Nat.le_of_ble_eq_true rfl)) (kk_I fun i5 h4 hg => ?_) (fun _ _ _ hx => hx.elim)
  replace hf := hg
  clear hg
  refine v_if_ne 11 dJ0_isEmpty_4 (by decide) (fun c6 => ?_) (fun c6 => ?_)
  · replace hf := hf.1 c6
    refine v_iconst (v := 0) dJ0_isEmpty_11 (by decide) ?_
    exact v_zret dJ0_isEmpty_12 rfl (by decide) ⟨_, rfl, hf⟩
  · replace hf := hf.2 c6
    refine v_iconst (v := 1) dJ0_isEmpty_7 (by decide) ?_
    refine v_goto 12 dJ0_isEmpty_8 (by decide) ?_
    exact v_zret dJ0_isEmpty_12 rfl (by decide) ⟨_, rfl, hf⟩
abbrev Y_X1_doubled : Yt := (yX1_doubled, some (.object "java/util/BitSet"), 7, 188, [])
def g_X1_doubled_0 (G : Gt) (E : Ev) (h : Hp) (k n : Nat) (a0 : Nat) (K : Option Nat → Hp → Prop) : Prop :=
nO h 15 [.null, .int 0, .int 0] fun a1 h2 =>
f_J16_init G h2 (some a1) (fun h3 =>
gR h3 (some a0) 1 0 fun r4 =>
rv h3 r4 10 (f_J2_isEmpty G h3 r4 (fun i14 h13 =>
((i14 = 0 → nO h13 16 [.null] fun a16 h17 =>
f_J19_init G h17 (some a16) (fun h18 =>
nO h18 19 [.int 0, .int 0, .null, .null] fun a19 h20 =>
f_J27_init G h20 (some a19) (fun h21 =>
nO h21 6 [.int 0, .int 0] fun a22 h23 =>
gI h23 (some a0) 1 3 fun i24 =>
gI h23 (some a0) 1 4 fun i29 =>
f_X6_init G h23 (some a22) i24 (i29 - i29 / (2 : Int32) * (2 : Int32)) (fun h34 =>
rv h34 (some a19) 19 (f_J27_addLast G h34 (some a19) (some a22) (fun h38 =>
V G E Y_X1_doubled cX1_doubled 7 (QM G E (kR K) xN) h38 k n 57 [(0, .ref a0), (1, .ref a1), (2, .ref a16), (3, .ref a19)] [])))))) ∧
(¬ (i14 = 0) → K (some a1) h13)))))
theorem s_X1_doubled_0 {G : Gt} {E : Ev} {h : Hp} {k0 n0 : Nat} {a0 : Nat} {K : Option Nat → Hp → Prop} (hG : Base G) (hA : 7 ≤ k0) (hB : 26 ≤ n0) (hf : g_X1_doubled_0 G E h (k0 - 7) (n0 - 26) a0 K) : V G E Y_X1_doubled cX1_doubled 7 (QM G E (kR K) xN) h k0 n0 0 [(0, .ref a0)] [] := by
  obtain ⟨k, hk9⟩ : ∃ z, z = k0 - 7 := ⟨_, rfl⟩
  obtain ⟨n, hn9⟩ : ∃ z, z = n0 - 26 := ⟨_, rfl⟩
  rw [← hk9, ← hn9] at hf
  refine V.weak (k' := k + 7) (n' := n + 26) ?_ (by omega) (by omega)
  unfold g_X1_doubled_0 at hf
  refine v_new (N := 3) (fs := [.null, .int 0, .int 0]) (ci := 15) dX1_doubled_0 q749 q750 q111 rfl in_J16 tyJ16 tyJ16_ok rfl (fun a1 ha1 => ?_)
  replace hf := hf a1 ha1
  obtain ⟨h2, eh2⟩ : ∃ z, z = hs h a1 (true, .inr (15, [.null, .int 0, .int 0])) := ⟨_, rfl⟩
  try rw [← eh2] at hf
  rw [← eh2]
  refine v_dup dX1_doubled_3 rfl ?_
  refine v_callI (mc := 1) (ms := 1) 0 dX1_doubled_4 (m_J16_init hG hf) rfl (lw_meth q753) rfl q111 q751 q752 rfl rfl (by decide +kernel) (by decide) rfl (cat_len (Nat.le_of_ble_eq_true rfl)) (kk_V fun h3 hg => ?_) (fun _ _ _ hx => hx.elim)
  replace hf := hg
  clear hg
  refine v_astore_n (i := 1) (lv' := [(0, .ref a0), (1, .ref a1)]) dX1_doubled_7 rfl (Nat.le_of_ble_eq_true rfl) rfl rfl ?_
  refine v_aload_n (i := 0) dX1_doubled_8 rfl rfl ?_
  replace hf := gR_e hf
  obtain ⟨w5, fs6, r4, hh7, hk8, hf⟩ := hf
  refine v_getf (T := TX1) (ci := 1) 0 dX1_doubled_9 q188 rfl in_X1 (Nat.le_of_ble_eq_true rfl) (Or.inl rfl) hh7 hk8 ?_
  obtain ⟨a9, rfl⟩ := rv_s hf
  replace hf := rv_e hf
  obtain ⟨w10, fs11, hh12, hf⟩ := hf
  refine V.addK0 ?_
  refine V.addN0 ?_
  refine v_callV (mc := 0) (ms := 0) 0 dX1_doubled_12 (m_J2_isEmpty hG hf) rfl hh12 rfl (lw_V q773 q774 q775 q92 q776) rfl (by decide +kernel) (by decide) rfl (cat_len (Nat.le_of_ble_eq_true rfl)) (kk_I fun i14 h13 hg => ?_) (fun _ _ _ hx => hx.elim)
  replace hf := hg
  clear hg
  refine v_if_eq 20 dX1_doubled_15 (by decide) (fun c15 => ?_) (fun c15 => ?_)
  · replace hf := hf.1 c15
    refine v_new (N := 1) (fs := [.null]) (ci := 16) dX1_doubled_20 q777 q778 q114 rfl in_J19 tyJ19 tyJ19_ok rfl (fun a16 ha16 => ?_)
    replace hf := hf a16 ha16
    obtain ⟨h17, eh17⟩ : ∃ z, z = hs h13 a16 (true, .inr (16, [.null])) := ⟨_, rfl⟩
    try rw [← eh17] at hf
    rw [← eh17]
    refine v_dup dX1_doubled_23 rfl ?_
    refine v_callI (mc := 1) (ms := 12) 0 dX1_doubled_24 (m_J19_init hG hf) rfl (lw_meth q781) rfl q114 q779 q780 rfl rfl (by decide +kernel) (by decide) rfl (cat_len (Nat.le_of_ble_eq_true rfl)) (kk_V fun h18 hg => ?_) (fun _ _ _ hx => hx.elim)
    replace hf := hg
    clear hg
    refine v_astore_n (i := 2) (lv' := [(0, .ref a0), (1, .ref a1), (2, .ref a16)]) dX1_doubled_27 rfl (Nat.le_of_ble_eq_true rfl) rfl rfl ?_
    refine v_new (N := 4) (fs := [.int 0, .int 0, .null, .null]) (ci := 19) dX1_doubled_28 q866 q867 q122 rfl in_J27 tyJ27 tyJ27_ok rfl (fun a19 ha19 => ?_)
    replace hf := hf a19 ha19
    obtain ⟨h20, eh20⟩ : ∃ z, z = hs h18 a19 (true, .inr (19, [.int 0, .int 0, .null, .null])) := ⟨_, rfl⟩
    try rw [← eh20] at hf
    rw [← eh20]
    refine v_dup dX1_doubled_31 rfl ?_
    refine V.addK0 ?_
    refine V.addN0 ?_
    refine v_callI (mc := 0) (ms := 0) 0 dX1_doubled_32 (m_J27_init hG hf) rfl (lw_meth q870) rfl q122 q868 q869 rfl rfl (by decide +kernel) (by decide) rfl (cat_len (Nat.le_of_ble_eq_true rfl)) (kk_V fun h21 hg => ?_) (fun _ _ _ hx => hx.elim)
    replace hf := hg
    clear hg
    refine v_astore_n (i := 3) (lv' := [(0, .ref a0), (1, .ref a1), (2, .ref a16), (3, .ref a19)]) dX1_doubled_35 rfl (Nat.le_of_ble_eq_true rfl) rfl rfl ?_
    refine v_aload_n (i := 3) dX1_doubled_36 rfl rfl ?_
    refine v_new (N := 2) (fs := [.int 0, .int 0]) (ci := 6) dX1_doubled_37 q886 q887 q123 rfl in_X6 tyX6 tyX6_ok rfl (fun a22 ha22 => ?_)
    replace hf := hf a22 ha22
    obtain ⟨h23, eh23⟩ : ∃ z, z = hs h21 a22 (true, .inr (6, [.int 0, .int 0])) := ⟨_, rfl⟩
    try rw [← eh23] at hf
    rw [← eh23]
    refine v_dup dX1_doubled_40 rfl ?_
    refine v_aload_n (i := 0) dX1_doubled_41 rfl rfl ?_
    replace hf := gI_e hf
    obtain ⟨w25, fs26, i24, hh27, hk28, hf⟩ := hf
    refine v_getf (T := TX1) (ci := 1) 3 dX1_doubled_42 q193 rfl in_X1 (Nat.le_of_ble_eq_true rfl) (Or.inl rfl) hh27 hk28 ?_
    refine v_aload_n (i := 0) dX1_doubled_45 rfl rfl ?_
    replace hf := gI_e hf
    obtain ⟨w30, fs31, i29, hh32, hk33, hf⟩ := hf
    refine v_getf (T := TX1) (ci := 1) 4 dX1_doubled_46 q195 rfl in_X1 (Nat.le_of_ble_eq_true rfl) (Or.inl rfl) hh32 hk33 ?_
    refine v_iconst (v := 2) dX1_doubled_49 (by decide) ?_
    refine v_irem dX1_doubled_50 (by decide) ?_
    refine V.addK0 ?_
    refine V.addN0 ?_
    refine v_callI (mc := 0) (ms := 0) 2 dX1_doubled_51 (m_X6_init hG hf) rfl (lw_meth q890) rfl q123 q888 q889 rfl rfl (by decide +kernel) (by decide) rfl (cat_len (Nat.le_of_ble_eq_true rfl)) (kk_V fun h34 hg => ?_) (fun _ _ _ hx => hx.elim)
    replace hf := hg
    clear hg
    replace hf := rv_e hf
    obtain ⟨w35, fs36, hh37, hf⟩ := hf
    refine v_callV (mc := 1) (ms := 3) 1 dX1_doubled_54 (m_J27_addLast hG hf) rfl hh37 rfl (lw_V q901 q902 q903 q122 q904) rfl (by decide +kernel) (by decide) rfl (cat_len (Nat.le_of_ble_eq_true rfl)) (kk_V fun h38 hg => ?_) (fun _ _ _ hx => hx.elim)
    replace hf := hg
    clear hg
    exact V.weak hf (by omega) (by omega)
  · replace hf := hf.2 c15
    refine v_aload_n (i := 1) dX1_doubled_18 rfl rfl ?_
    exact v_qret (r := (some a1)) dX1_doubled_19 rfl (Or.inl ⟨_, rfl⟩) ⟨_, rfl, hf⟩
def g_X1_doubled_57 (G : Gt) (E : Ev) (h : Hp) (k n : Nat) (a0 : Nat) (r_1 : Option Nat) (r_2 : Option Nat) (r_3 : Option Nat) (K : Option Nat → Hp → Prop) : Prop :=
rv h r_3 19 (f_J0_isEmpty G h r_3 (fun i6 h5 =>
((¬ (i6 = 0) → K r_1 h5) ∧
(i6 = 0 → rv h5 r_3 19 (f_J27_removeFirst G h5 r_3 (fun r12 h11 =>
(oc h11 r12 6 ∧ rv h11 r_2 16 (dI G Y_J18_add cJ18_add 2 [va_rf r_2, va_rf r12] h11 k n (fun i18 h17 k21 n22 =>
((i18 = 0 → V G E Y_X1_doubled cX1_doubled 7 (QM G E (kR K) xN) h17 k21 n22 57 [(0, .ref a0), (1, va_rf r_1), (2, va_rf r_2), (3, va_rf r_3)] []) ∧
(¬ (i18 = 0) → rv h17 r12 6 (f_X6_after G h17 r12 (1 : Int32) (fun r29 h28 =>
rv h28 r_2 16 (dI G Y_J18_contains cJ18_contains 2 [va_rf r_2, va_rf r29] h28 k21 n22 (fun i34 h33 k37 n38 =>
((i34 = 0 → gR h33 (some a0) 1 1 fun r40 =>
rv h33 r40 10 (f_J2_iterator G h33 r40 (fun r50 h49 =>
V G E Y_X1_doubled cX1_doubled 7 (QM G E (kR K) xN) h49 k37 n38 113 [(0, .ref a0), (1, va_rf r_1), (2, va_rf r_2), (3, va_rf r_3), (4, va_rf r12), (5, va_rf r50)] []))) ∧
(¬ (i34 = 0) → gI h33 r12 6 0 fun i51 =>
rv h33 r_1 15 (f_J16_set G h33 r_1 i51 (fun h60 =>
gR h60 (some a0) 1 1 fun r61 =>
rv h60 r61 10 (f_J2_iterator G h60 r61 (fun r71 h70 =>
V G E Y_X1_doubled cX1_doubled 7 (QM G E (kR K) xN) h70 k37 n38 113 [(0, .ref a0), (1, va_rf r_1), (2, va_rf r_2), (3, va_rf r_3), (4, va_rf r12), (5, va_rf r71)] []))))))) xN)))))) xN))))))))
theorem s_X1_doubled_57 {G : Gt} {E : Ev} {h : Hp} {k0 n0 : Nat} {a0 : Nat} {r_1 : Option Nat} {r_2 : Option Nat} {r_3 : Option Nat} {K : Option Nat → Hp → Prop} (hG : Base G) (hA : 2 ≤ k0) (hB : 6 ≤ n0) (hf : g_X1_doubled_57 G E h (k0 - 2) (n0 - 6) a0 r_1 r_2 r_3 K) : V G E Y_X1_doubled cX1_doubled 7 (QM G E (kR K) xN) h k0 n0 57 [(0, .ref a0), (1, va_rf r_1), (2, va_rf r_2), (3, va_rf r_3)] [] := by
  obtain ⟨k, hk9⟩ : ∃ z, z = k0 - 2 := ⟨_, rfl⟩
  obtain ⟨n, hn9⟩ : ∃ z, z = n0 - 6 := ⟨_, rfl⟩
  rw [← hk9, ← hn9] at hf
  refine V.weak (k' := k + 2) (n' := n + 6) ?_ (by omega) (by omega)
  unfold g_X1_doubled_57 at hf
  refine v_qload_n (r := r_3) (i := 3) dX1_doubled_57 rfl rfl ?_
  obtain ⟨a1, rfl⟩ := rv_s hf
  replace hf := rv_e hf
  obtain ⟨w2, fs3, hh4, hf⟩ := hf
  refine V.addK0 ?_
  refine V.addN0 ?_
  refine v_callU (mc := 0) (ms := 0) 0 dX1_doubled_58 (m_J0_isEmpty hG hf) rfl hh4 rfl (lw_U q928 q929 q931 q932 q90 q933) rfl rfl (by decide +kernel) (by decide) rfl (cat_len (Nat.le_of_ble_eq_true rfl)) (kk_I fun i6 h5 hg => ?_) (fun _ _ _ hx => hx.elim)
  replace hf := hg
  clear hg
  refine v_if_ne 164 dX1_doubled_61 (by decide) (fun c7 => ?_) (fun c7 => ?_)
  · replace hf := hf.1 c7
    refine v_qload_n (r := r_1) (i := 1) dX1_doubled_164 rfl rfl ?_
    exact v_qret (r := r_1) dX1_doubled_165 rfl (Or.inl ⟨_, rfl⟩) ⟨_, rfl, hf⟩
  · replace hf := hf.2 c7
    refine v_qload_n (r := (some a1)) (i := 3) dX1_doubled_64 rfl rfl ?_
    replace hf := rv_e hf
    obtain ⟨w8, fs9, hh10, hf⟩ := hf
    refine V.addK0 ?_
    refine V.addN0 ?_
    refine v_callV (mc := 0) (ms := 0) 0 dX1_doubled_65 (m_J27_removeFirst hG hf) rfl hh10 rfl (lw_V q956 q957 q958 q122 q959) rfl (by decide +kernel) (by decide) rfl (cat_len (Nat.le_of_ble_eq_true rfl)) (kk_R fun r12 h11 hg => ?_) (fun _ _ _ hx => hx.elim)
    replace hf := hg
    clear hg
    obtain ⟨hoc, hf⟩ := hf
    refine v_castQS (r := r12) dX1_doubled_68 q886 hoc rfl ?_
    refine v_qstore (i := 4) (r := r12) (lv' := [(0, .ref a0), (1, va_rf r_1), (2, va_rf r_2), (3, va_rf (some a1)), (4, va_rf r12)]) dX1_doubled_71 (Nat.le_of_ble_eq_true rfl) rfl rfl ?_
    refine v_qload_n (r := r_2) (i := 2) dX1_doubled_73 rfl rfl ?_
    refine v_qload (r := r12) (i := 4) dX1_doubled_74 rfl ?_
    obtain ⟨a13, rfl⟩ := rv_s hf
    replace hf := rv_e hf
    obtain ⟨w14, fs15, hh16, hf⟩ := hf
    obtain ⟨mc19, ms20, hkmc19, hnms20, hM⟩ := hf
    refine V.weak (k' := ((k - mc19) + 2) + mc19) (n' := ((n - ms20) + 6) + ms20) ?_ (by omega) (by omega)
    refine v_callU 1 dX1_doubled_76 hM rfl hh16 rfl (lw_U q964 q965 q967 q968 q113 q969) rfl rfl (by decide +kernel) (by decide) rfl (cat_len (Nat.le_of_ble_eq_true rfl)) (kk_I fun i18 h17 hg => ?_) (fun _ _ _ hx => hx.elim)
    have hf := hg
    clear hg
    refine v_if_eq 161 dX1_doubled_79 (by decide) (fun c23 => ?_) (fun c23 => ?_)
    · replace hf := hf.1 c23
      refine v_goto 57 dX1_doubled_161 (by decide) ?_
      refine V.lp (lv' := [(0, .ref a0), (1, va_rf r_1), (2, va_rf (some a13)), (3, va_rf (some a1))]) [0, 1, 2, 3] rfl ?_
      exact V.weak hf (by omega) (by omega)
    · replace hf := hf.2 c23
      refine v_qload_n (r := (some a13)) (i := 2) dX1_doubled_82 rfl rfl ?_
      refine v_qload (r := r12) (i := 4) dX1_doubled_83 rfl ?_
      refine v_iconst (v := 1) dX1_doubled_85 (by decide) ?_
      obtain ⟨a24, rfl⟩ := rv_s hf
      replace hf := rv_e hf
      obtain ⟨w25, fs26, hh27, hf⟩ := hf
      refine v_callV (mc := 1) (ms := 2) 1 dX1_doubled_86 (m_X6_after hG hf) rfl hh27 rfl (lw_V q1517 q1518 q1519 q123 q1520) rfl (by decide +kernel) (by decide) rfl (cat_len (Nat.le_of_ble_eq_true rfl)) (kk_R fun r29 h28 hg => ?_) (fun _ _ _ hx => hx.elim)
      replace hf := hg
      clear hg
      replace hf := rv_e hf
      obtain ⟨w30, fs31, hh32, hf⟩ := hf
      obtain ⟨mc35, ms36, hkmc35, hnms36, hM⟩ := hf
      refine V.weak (k' := (((k - mc19) - mc35) + 1) + mc35) (n' := (((n - ms20) - ms36) + 4) + ms36) ?_ (by omega) (by omega)
      refine v_callU 1 dX1_doubled_89 hM rfl hh32 rfl (lw_U q1522 q1523 q1525 q1526 q113 q1527) rfl rfl (by decide +kernel) (by decide) rfl (cat_len (Nat.le_of_ble_eq_true rfl)) (kk_I fun i34 h33 hg => ?_) (fun _ _ _ hx => hx.elim)
      have hf := hg
      clear hg
      refine v_if_eq 104 dX1_doubled_92 (by decide) (fun c39 => ?_) (fun c39 => ?_)
      · replace hf := hf.1 c39
        refine v_aload_n (i := 0) dX1_doubled_104 rfl rfl ?_
        replace hf := gR_e hf
        obtain ⟨w41, fs42, r40, hh43, hk44, hf⟩ := hf
        refine v_getf (T := TX1) (ci := 1) 1 dX1_doubled_105 q190 rfl in_X1 (Nat.le_of_ble_eq_true rfl) (Or.inl rfl) hh43 hk44 ?_
        obtain ⟨a45, rfl⟩ := rv_s hf
        replace hf := rv_e hf
        obtain ⟨w46, fs47, hh48, hf⟩ := hf
        refine v_callV (mc := 1) (ms := 4) 0 dX1_doubled_108 (m_J2_iterator hG hf) rfl hh48 rfl (lw_V q315 q316 q317 q92 q318) rfl (by decide +kernel) (by decide) rfl (cat_len (Nat.le_of_ble_eq_true rfl)) (kk_R fun r50 h49 hg => ?_) (fun _ _ _ hx => hx.elim)
        replace hf := hg
        clear hg
        refine v_qstore (i := 5) (r := r50) (lv' := [(0, .ref a0), (1, va_rf r_1), (2, va_rf (some a13)), (3, va_rf (some a1)), (4, va_rf (some a24)), (5, va_rf r50)]) dX1_doubled_111 (Nat.le_of_ble_eq_true rfl) rfl rfl ?_
        exact V.weak hf (by omega) (by omega)
      · replace hf := hf.2 c39
        refine v_qload_n (r := r_1) (i := 1) dX1_doubled_95 rfl rfl ?_
        refine v_qload (r := (some a24)) (i := 4) dX1_doubled_96 rfl ?_
        replace hf := gI_e hf
        obtain ⟨w52, fs53, i51, hh54, hk55, hf⟩ := hf
        refine v_getfN (T := TX6) (ci := 6) 0 dX1_doubled_98 q893 rfl in_X6 (Nat.le_of_ble_eq_true rfl) (Or.inl rfl) hh54 hk55 ?_
        obtain ⟨a56, rfl⟩ := rv_s hf
        replace hf := rv_e hf
        obtain ⟨w57, fs58, hh59, hf⟩ := hf
        refine V.addK0 ?_
        refine V.addN0 ?_
        refine v_callV (mc := 0) (ms := 0) 1 dX1_doubled_101 (m_J16_set hG hf) rfl hh59 rfl (lw_V q1542 q1543 q1544 q111 q1545) rfl (by decide +kernel) (by decide) rfl (cat_len (Nat.le_of_ble_eq_true rfl)) (kk_V fun h60 hg => ?_) (fun _ _ _ hx => hx.elim)
        replace hf := hg
        clear hg
        refine v_aload_n (i := 0) dX1_doubled_104 rfl rfl ?_
        replace hf := gR_e hf
        obtain ⟨w62, fs63, r61, hh64, hk65, hf⟩ := hf
        refine v_getf (T := TX1) (ci := 1) 1 dX1_doubled_105 q190 rfl in_X1 (Nat.le_of_ble_eq_true rfl) (Or.inl rfl) hh64 hk65 ?_
        obtain ⟨a66, rfl⟩ := rv_s hf
        replace hf := rv_e hf
        obtain ⟨w67, fs68, hh69, hf⟩ := hf
        refine v_callV (mc := 1) (ms := 4) 0 dX1_doubled_108 (m_J2_iterator hG hf) rfl hh69 rfl (lw_V q315 q316 q317 q92 q318) rfl (by decide +kernel) (by decide) rfl (cat_len (Nat.le_of_ble_eq_true rfl)) (kk_R fun r71 h70 hg => ?_) (fun _ _ _ hx => hx.elim)
        replace hf := hg
        clear hg
        refine v_qstore (i := 5) (r := r71) (lv' := [(0, .ref a0), (1, va_rf (some a56)), (2, va_rf (some a13)), (3, va_rf (some a1)), (4, va_rf (some a24)), (5, va_rf r71)]) dX1_doubled_111 (Nat.le_of_ble_eq_true rfl) rfl rfl ?_
        exact V.weak hf (by omega) (by omega)
def g_X1_doubled_113 (G : Gt) (E : Ev) (h : Hp) (k n : Nat) (a0 : Nat) (r_1 : Option Nat) (r_2 : Option Nat) (r_3 : Option Nat) (r_4 : Option Nat) (r_5 : Option Nat) (K : Option Nat → Hp → Prop) : Prop :=
rv h r_5 11 (f_J8_hasNext G h r_5 (fun i6 h5 =>
((i6 = 0 → V G E Y_X1_doubled cX1_doubled 7 (QM G E (kR K) xN) h5 k n 57 [(0, .ref a0), (1, va_rf r_1), (2, va_rf r_2), (3, va_rf r_3)] []) ∧
(¬ (i6 = 0) → rv h5 r_5 11 (f_J8_next G h5 r_5 (fun r12 h11 =>
(oc h11 r12 5 ∧ rv h11 (some a0) 1 (f_X1_goesOn G h11 (some a0) r_4 r12 (fun i17 h16 =>
((i17 = 0 → V G E Y_X1_doubled cX1_doubled 7 (QM G E (kR K) xN) h16 k n 113 [(0, .ref a0), (1, va_rf r_1), (2, va_rf r_2), (3, va_rf r_3), (4, va_rf r_4), (5, va_rf r_5)] []) ∧
(¬ (i17 = 0) → rv h16 (some a0) 1 (f_X1_behind G h16 (some a0) r_4 r12 (fun r23 h22 =>
rv h22 r_3 19 (f_J27_addLast G h22 r_3 r23 (fun h28 =>
V G E Y_X1_doubled cX1_doubled 7 (QM G E (kR K) xN) h28 k n 113 [(0, .ref a0), (1, va_rf r_1), (2, va_rf r_2), (3, va_rf r_3), (4, va_rf r_4), (5, va_rf r_5)] [])))))))))))))))
theorem s_X1_doubled_113 {G : Gt} {E : Ev} {h : Hp} {k0 n0 : Nat} {a0 : Nat} {r_1 : Option Nat} {r_2 : Option Nat} {r_3 : Option Nat} {r_4 : Option Nat} {r_5 : Option Nat} {K : Option Nat → Hp → Prop} (hG : Base G) (hA : 2 ≤ k0) (hB : 5 ≤ n0) (hf : g_X1_doubled_113 G E h (k0 - 2) (n0 - 5) a0 r_1 r_2 r_3 r_4 r_5 K) : V G E Y_X1_doubled cX1_doubled 7 (QM G E (kR K) xN) h k0 n0 113 [(0, .ref a0), (1, va_rf r_1), (2, va_rf r_2), (3, va_rf r_3), (4, va_rf r_4), (5, va_rf r_5)] [] := by
  obtain ⟨k, hk9⟩ : ∃ z, z = k0 - 2 := ⟨_, rfl⟩
  obtain ⟨n, hn9⟩ : ∃ z, z = n0 - 5 := ⟨_, rfl⟩
  rw [← hk9, ← hn9] at hf
  refine V.weak (k' := k + 2) (n' := n + 5) ?_ (by omega) (by omega)
  unfold g_X1_doubled_113 at hf
  refine v_qload (r := r_5) (i := 5) dX1_doubled_113 rfl ?_
  obtain ⟨a1, rfl⟩ := rv_s hf
  replace hf := rv_e hf
  obtain ⟨w2, fs3, hh4, hf⟩ := hf
  refine V.addK0 ?_
  refine V.addN0 ?_
  refine v_callF (mc := 0) (ms := 0) 0 dX1_doubled_115 (m_J8_hasNext hG hf) rfl hh4 rfl (lw_F q339 q343 q345 q99 q347) (fun C9 => v_Fw C9 (by decide) q341 q340 q346 q344 q342) rfl (by decide +kernel) (by decide) rfl (cat_len (Nat.le_of_ble_eq_true rfl)) (kk_I fun i6 h5 hg => ?_) (fun _ _ _ hx => hx.elim)
  replace hf := hg
  clear hg
  refine v_if_eq 161 dX1_doubled_120 (by decide) (fun c7 => ?_) (fun c7 => ?_)
  · replace hf := hf.1 c7
    refine v_goto 57 dX1_doubled_161 (by decide) ?_
    refine V.lp (lv' := [(0, .ref a0), (1, va_rf r_1), (2, va_rf r_2), (3, va_rf r_3)]) [0, 1, 2, 3] rfl ?_
    exact V.weak hf (by omega) (by omega)
  · replace hf := hf.2 c7
    refine v_qload (r := (some a1)) (i := 5) dX1_doubled_123 rfl ?_
    replace hf := rv_e hf
    obtain ⟨w8, fs9, hh10, hf⟩ := hf
    refine V.addK0 ?_
    refine V.addN0 ?_
    refine v_callF (mc := 0) (ms := 0) 0 dX1_doubled_125 (m_J8_next hG hf) rfl hh10 rfl (lw_F q361 q364 q366 q99 q368) (fun C9 => v_Fw C9 (by decide) q363 q362 q367 q365 q342) rfl (by decide +kernel) (by decide) rfl (cat_len (Nat.le_of_ble_eq_true rfl)) (kk_R fun r12 h11 hg => ?_) (fun _ _ _ hx => hx.elim)
    replace hf := hg
    clear hg
    obtain ⟨hoc, hf⟩ := hf
    refine v_castQS (r := r12) dX1_doubled_130 q499 hoc rfl ?_
    refine v_qstore (i := 6) (r := r12) (lv' := [(0, .ref a0), (1, va_rf r_1), (2, va_rf r_2), (3, va_rf r_3), (4, va_rf r_4), (5, va_rf (some a1)), (6, va_rf r12)]) dX1_doubled_133 (Nat.le_of_ble_eq_true rfl) rfl rfl ?_
    refine v_aload_n (i := 0) dX1_doubled_135 rfl rfl ?_
    refine v_qload (r := r_4) (i := 4) dX1_doubled_136 rfl ?_
    refine v_qload (r := r12) (i := 6) dX1_doubled_138 rfl ?_
    replace hf := rv_e hf
    obtain ⟨w13, fs14, hh15, hf⟩ := hf
    refine V.addK0 ?_
    refine V.addN0 ?_
    refine v_callV (mc := 0) (ms := 0) 2 dX1_doubled_140 (m_X1_goesOn hG hf) rfl hh15 rfl (lw_V q1571 q1573 qs17 q89 q1574) rfl (by decide +kernel) (by decide) rfl (cat_len (Nat.le_of_ble_eq_true rfl)) (kk_I fun i17 h16 hg => ?_) (fun _ _ _ hx => hx.elim)
    replace hf := hg
    clear hg
    refine v_if_eq 158 dX1_doubled_143 (by decide) (fun c18 => ?_) (fun c18 => ?_)
    · replace hf := hf.1 c18
      refine v_goto 113 dX1_doubled_158 (by decide) ?_
      refine V.lp (lv' := [(0, .ref a0), (1, va_rf r_1), (2, va_rf r_2), (3, va_rf r_3), (4, va_rf r_4), (5, va_rf (some a1))]) [0, 1, 2, 3, 4, 5] rfl ?_
      exact V.weak hf (by omega) (by omega)
    · replace hf := hf.2 c18
      refine v_qload_n (r := r_3) (i := 3) dX1_doubled_146 rfl rfl ?_
      refine v_aload_n (i := 0) dX1_doubled_147 rfl rfl ?_
      refine v_qload (r := r_4) (i := 4) dX1_doubled_148 rfl ?_
      refine v_qload (r := r12) (i := 6) dX1_doubled_150 rfl ?_
      replace hf := rv_e hf
      obtain ⟨w19, fs20, hh21, hf⟩ := hf
      refine v_callV (mc := 1) (ms := 2) 2 dX1_doubled_152 (m_X1_behind hG hf) rfl hh21 rfl (lw_V q1587 q1589 qs18 q89 q1590) rfl (by decide +kernel) (by decide) rfl (cat_len (Nat.le_of_ble_eq_true rfl)) (kk_R fun r23 h22 hg => ?_) (fun _ _ _ hx => hx.elim)
      replace hf := hg
      clear hg
      obtain ⟨a24, rfl⟩ := rv_s hf
      replace hf := rv_e hf
      obtain ⟨w25, fs26, hh27, hf⟩ := hf
      refine v_callV (mc := 1) (ms := 3) 1 dX1_doubled_155 (m_J27_addLast hG hf) rfl hh27 rfl (lw_V q901 q902 q903 q122 q904) rfl (by decide +kernel) (by decide) rfl (cat_len (Nat.le_of_ble_eq_true rfl)) (kk_V fun h28 hg => ?_) (fun _ _ _ hx => hx.elim)
      replace hf := hg
      clear hg
      refine v_goto 113 dX1_doubled_158 (by decide) ?_
      refine V.lp (lv' := [(0, .ref a0), (1, va_rf r_1), (2, va_rf r_2), (3, va_rf (some a24)), (4, va_rf r_4), (5, va_rf (some a1))]) [0, 1, 2, 3, 4, 5] rfl ?_
      exact V.weak hf (by omega) (by omega)
theorem b_X1_doubled {G : Gt} {h : Hp} {mc ms : Nat} {a0 : Nat} {K : Option Nat → Hp → Prop} (hG : Base G) (hf : ∀ E : Ev, V G E Y_X1_doubled cX1_doubled 7 (QM G E (kR K) xN) h mc ms 0 [(0, .ref a0)] []) : MM G Y_X1_doubled cX1_doubled 7 mc ms [.ref a0] h (kR K) xN := mm_of hG (by decide +kernel) rfl (ac_c rfl ac_nil) (Nat.le_of_ble_eq_true rfl) (fun E _ _ => hf E)
abbrev Y_J21_init_2 : Yt := (yJ21_init_2, none, 2, 60, [])
def f_J21_init_2 (G : Gt) (h : Hp) (t_0 : Option Nat) (K : Hp → Prop) : Prop :=
f_J20_init G h t_0 (fun h1 =>
pF h1 t_0 17 5 (.float (1061158912 : UInt32)) fun h4 =>
K h4)
theorem m_J21_init_2 {G : Gt} {h : Hp} {a0 : Nat} {K : Hp → Prop} (hG : Base G) (hf : f_J21_init_2 G h (some a0) K) : MM G Y_J21_init_2 cJ21_init_2 1 0 0 [.ref a0] h (kV K) xN := by
  refine mm_of hG (by decide +kernel) rfl (ac_c rfl ac_nil) (Nat.le_of_ble_eq_true rfl) (fun E _ _ => ?_)
  show V G E Y_J21_init_2 cJ21_init_2 1 (QM G E (kV K) xN) h 0 0 0 [(0, .ref a0)] []
  unfold f_J21_init_2 at hf
  refine v_qload_n (r := (some a0)) (i := 0) dJ21_init_2_0 rfl rfl ?_
  refine V.addK0 ?_
  refine V.addN0 ?_
  refine v_callI (mc := 0) (ms := 0) 0 dJ21_init_2_1 (m_J20_init hG hf) rfl (lw_meth q800) rfl q115 q798 q799 rfl rfl (by decide +kernel) (by decide) rfl (cat_len (Nat.le_of_ble_eq_true rfl)) (kk_V fun h1 hg => ?_) (fun _ _ _ hx => hx.elim)
  replace hf := hg
  clear hg
  refine v_qload_n (r := (some a0)) (i := 0) dJ21_init_2_4 rfl rfl ?_
  refine v_ldcf dJ21_init_2_5 q1618 ?_
  replace hf := pF_e hf
  obtain ⟨fs2, hh3, hf⟩ := hf
  refine v_putfF (v := .float (1061158912 : UInt32)) (T := TJ22) (ci := 17) (ty := .float) 5 dJ21_init_2_7 q832 rfl in_J22 tyJ22 tyJ22_ok nmJ22 (Nat.le_of_ble_eq_true rfl) (Or.inl rfl) rfl rfl rfl (by decide +kernel) rfl rfl hh3 ?_
  obtain ⟨h4, eh4⟩ : ∃ z, z = hs h1 a0 (true, .inr (17, fs2.set 5 (.float (1061158912 : UInt32)))) := ⟨_, rfl⟩
  try rw [← eh4] at hf
  rw [← eh4]
  exact v_vret dJ21_init_2_10 rfl ⟨rfl, hf⟩
abbrev Y_J22_init_2 : Yt := (yJ22_init_2, none, 3, 80, [])
def f_J22_init_2 (G : Gt) (h : Hp) (t_0 : Option Nat) (K : Hp → Prop) : Prop :=
f_J21_init_2 G h t_0 (fun h1 =>
pF h1 t_0 17 11 (.int (0 : Int32)) fun h4 =>
((narrow .boolean (.int (0 : Int32)) = .int (0 : Int32) ∧ fits .boolean (.int (0 : Int32)) = true) ∧ pF h4 t_0 17 10 (.int (0 : Int32)) fun h7 =>
K h7))
theorem m_J22_init_2 {G : Gt} {h : Hp} {a0 : Nat} {K : Hp → Prop} (hG : Base G) (hf : f_J22_init_2 G h (some a0) K) : MM G Y_J22_init_2 cJ22_init_2 1 0 0 [.ref a0] h (kV K) xN := by
  refine mm_of hG (by decide +kernel) rfl (ac_c rfl ac_nil) (Nat.le_of_ble_eq_true rfl) (fun E _ _ => ?_)
  show V G E Y_J22_init_2 cJ22_init_2 1 (QM G E (kV K) xN) h 0 0 0 [(0, .ref a0)] []
  unfold f_J22_init_2 at hf
  refine v_qload_n (r := (some a0)) (i := 0) dJ22_init_2_0 rfl rfl ?_
  refine V.addK0 ?_
  refine V.addN0 ?_
  refine v_callI (mc := 0) (ms := 0) 0 dJ22_init_2_1 (m_J21_init_2 hG hf) rfl (lw_meth q1617) rfl q116 q1615 q1616 rfl rfl (by decide +kernel) (by decide) rfl (cat_len (Nat.le_of_ble_eq_true rfl)) (kk_V fun h1 hg => ?_) (fun _ _ _ hx => hx.elim)
  replace hf := hg
  clear hg
  refine v_qload_n (r := (some a0)) (i := 0) dJ22_init_2_4 rfl rfl ?_
  refine v_iconst (v := 0) dJ22_init_2_5 (by decide) ?_
  replace hf := pF_e hf
  obtain ⟨fs2, hh3, hf⟩ := hf
  refine v_putf (v := .int (0 : Int32)) (T := TJ22) (ci := 17) (ty := .int) 11 dJ22_init_2_6 q818 rfl in_J22 tyJ22 tyJ22_ok nmJ22 (Nat.le_of_ble_eq_true rfl) (Or.inl rfl) rfl (by decide +kernel) rfl rfl hh3 ?_
  obtain ⟨h4, eh4⟩ : ∃ z, z = hs h1 a0 (true, .inr (17, fs2.set 11 (.int (0 : Int32)))) := ⟨_, rfl⟩
  try rw [← eh4] at hf
  rw [← eh4]
  refine v_qload_n (r := (some a0)) (i := 0) dJ22_init_2_9 rfl rfl ?_
  refine v_iconst (v := 0) dJ22_init_2_10 (by decide) ?_
  obtain ⟨hnr, hf⟩ := hf
  replace hf := pF_e hf
  obtain ⟨fs5, hh6, hf⟩ := hf
  refine v_putfF (v := .int (0 : Int32)) (T := TJ22) (ci := 17) (ty := .boolean) 10 dJ22_init_2_11 q817 rfl in_J22 tyJ22 tyJ22_ok nmJ22 (Nat.le_of_ble_eq_true rfl) (Or.inl rfl) rfl rfl rfl (by decide +kernel) hnr.1 hnr.2 hh6 ?_
  obtain ⟨h7, eh7⟩ : ∃ z, z = hs h4 a0 (true, .inr (17, fs5.set 10 (.int (0 : Int32)))) := ⟨_, rfl⟩
  try rw [← eh7] at hf
  rw [← eh7]
  exact v_vret dJ22_init_2_14 rfl ⟨rfl, hf⟩
abbrev Y_J23_init : Yt := (yJ23_init, none, 1, 40, [])
def f_J23_init (G : Gt) (h : Hp) (t_0 : Option Nat) (K : Hp → Prop) : Prop :=
K h
theorem m_J23_init {G : Gt} {h : Hp} {a0 : Nat} {K : Hp → Prop} (hG : Base G) (hf : f_J23_init G h (some a0) K) : MM G Y_J23_init cJ23_init 1 0 0 [.ref a0] h (kV K) xN := by
  refine mm_of hG (by decide +kernel) rfl (ac_c rfl ac_nil) (Nat.le_of_ble_eq_true rfl) (fun E _ _ => ?_)
  show V G E Y_J23_init cJ23_init 1 (QM G E (kV K) xN) h 0 0 0 [(0, .ref a0)] []
  unfold f_J23_init at hf
  refine v_qload_n (r := (some a0)) (i := 0) dJ23_init_0 rfl rfl ?_
  refine v_objInit dJ23_init_1 q1637 q153 q154 (cat_len (Nat.le_of_ble_eq_true rfl)) (Nat.le_of_ble_eq_true rfl) (Nat.le_of_ble_eq_true rfl) ?_
  exact v_vret dJ23_init_4 rfl ⟨rfl, hf⟩
abbrev Y_J25_init : Yt := (yJ25_init, none, 2, 60, [])
def f_J25_init (G : Gt) (h : Hp) (t_0 : Option Nat) (i_1 : Int32) (K : Hp → Prop) : Prop :=
f_J23_init G h t_0 (fun h1 =>
pF h1 t_0 18 0 (.int i_1) fun h4 =>
K h4)
theorem m_J25_init {G : Gt} {h : Hp} {a0 : Nat} {i_1 : Int32} {K : Hp → Prop} (hG : Base G) (hf : f_J25_init G h (some a0) i_1 K) : MM G Y_J25_init cJ25_init 2 0 0 [.ref a0, .int i_1] h (kV K) xN := by
  refine mm_of hG (by decide +kernel) rfl (ac_c rfl (ac_c rfl ac_nil)) (Nat.le_of_ble_eq_true rfl) (fun E _ _ => ?_)
  show V G E Y_J25_init cJ25_init 2 (QM G E (kV K) xN) h 0 0 0 [(0, .ref a0), (1, .int i_1)] []
  unfold f_J25_init at hf
  refine v_qload_n (r := (some a0)) (i := 0) dJ25_init_0 rfl rfl ?_
  refine V.addK0 ?_
  refine V.addN0 ?_
  refine v_callI (mc := 0) (ms := 0) 0 dJ25_init_1 (m_J23_init hG hf) rfl (lw_meth q1636) rfl q118 q1634 q1635 rfl rfl (by decide +kernel) (by decide) rfl (cat_len (Nat.le_of_ble_eq_true rfl)) (kk_V fun h1 hg => ?_) (fun _ _ _ hx => hx.elim)
  replace hf := hg
  clear hg
  refine v_qload_n (r := (some a0)) (i := 0) dJ25_init_4 rfl rfl ?_
  refine v_iload_n (i := 1) dJ25_init_5 rfl rfl ?_
  replace hf := pF_e hf
  obtain ⟨fs2, hh3, hf⟩ := hf
  refine v_putfF (v := .int i_1) (T := TJ25) (ci := 18) (ty := .int) 0 dJ25_init_6 q1638 rfl in_J25 tyJ25 tyJ25_ok nmJ25 (Nat.le_of_ble_eq_true rfl) (Or.inl rfl) rfl rfl rfl (by decide +kernel) rfl rfl hh3 ?_
  obtain ⟨h4, eh4⟩ : ∃ z, z = hs h1 a0 (true, .inr (18, fs2.set 0 (.int i_1))) := ⟨_, rfl⟩
  try rw [← eh4] at hf
  rw [← eh4]
  exact v_vret dJ25_init_9 rfl ⟨rfl, hf⟩
abbrev Y_J25_valueOf : Yt := (yJ25_valueOf, some (.object "java/lang/Integer"), 3, 81, [])
def f_J25_valueOf (G : Gt) (h : Hp) (i_0 : Int32) (K : Option Nat → Hp → Prop) : Prop :=
((i_0 < (-128 : Int32) → nO h 18 [.int 0] fun a2 h3 =>
f_J25_init G h3 (some a2) i_0 (fun h4 =>
K (some a2) h4)) ∧
(¬ (i_0 < (-128 : Int32)) → (((127 : Int32) < i_0 → nO h 18 [.int 0] fun a6 h7 =>
f_J25_init G h7 (some a6) i_0 (fun h8 =>
K (some a6) h8)) ∧
(¬ ((127 : Int32) < i_0) → gS (g_r G 3) fun r9 =>
aQ h r9 (i_0 + (128 : Int32)) fun r18 =>
K r18 h))))
theorem m_J25_valueOf {G : Gt} {h : Hp} {i_0 : Int32} {K : Option Nat → Hp → Prop} (hG : Base G) (hf : f_J25_valueOf G h i_0 K) : MM G Y_J25_valueOf cJ25_valueOf 1 1 1 [.int i_0] h (kR K) xN := by
  refine mm_of hG (by decide +kernel) rfl (ac_c rfl ac_nil) (Nat.le_of_ble_eq_true rfl) (fun E _ _ => ?_)
  show V G E Y_J25_valueOf cJ25_valueOf 1 (QM G E (kR K) xN) h 1 1 0 [(0, .int i_0)] []
  unfold f_J25_valueOf at hf
  refine v_iload_n (i := 0) dJ25_valueOf_0 rfl rfl ?_
  refine v_bipush (v := -128) dJ25_valueOf_1 (by decide) ?_
  refine v_icmp_lt 23 dJ25_valueOf_3 (by decide) (fun c1 => ?_) (fun c1 => ?_)
  · replace hf := hf.1 c1
    refine v_new (N := 1) (fs := [.int 0]) (ci := 18) dJ25_valueOf_23 q1180 q1630 q120 rfl in_J25 tyJ25 tyJ25_ok rfl (fun a2 ha2 => ?_)
    replace hf := hf a2 ha2
    obtain ⟨h3, eh3⟩ : ∃ z, z = hs h a2 (true, .inr (18, [.int 0])) := ⟨_, rfl⟩
    try rw [← eh3] at hf
    rw [← eh3]
    refine v_dup dJ25_valueOf_26 rfl ?_
    refine v_iload_n (i := 0) dJ25_valueOf_27 rfl rfl ?_
    refine V.addK0 ?_
    refine V.addN0 ?_
    refine v_callI (mc := 0) (ms := 0) 1 dJ25_valueOf_28 (m_J25_init hG hf) rfl (lw_meth q1633) rfl q120 q1631 q1632 rfl rfl (by decide +kernel) (by decide) rfl (cat_len (Nat.le_of_ble_eq_true rfl)) (kk_V fun h4 hg => ?_) (fun _ _ _ hx => hx.elim)
    replace hf := hg
    clear hg
    exact v_qret (r := (some a2)) dJ25_valueOf_31 rfl (Or.inl ⟨_, rfl⟩) ⟨_, rfl, hf⟩
  · replace hf := hf.2 c1
    refine v_iload_n (i := 0) dJ25_valueOf_6 rfl rfl ?_
    refine v_gets dJ25_valueOf_7 q1626 (List.mem_of_getElem? (i := 5) rfl) (Or.inl rfl) ?_
    refine v_icmp_gt 23 dJ25_valueOf_10 (by decide) (fun c5 => ?_) (fun c5 => ?_)
    · replace hf := hf.1 c5
      refine v_new (N := 1) (fs := [.int 0]) (ci := 18) dJ25_valueOf_23 q1180 q1630 q120 rfl in_J25 tyJ25 tyJ25_ok rfl (fun a6 ha6 => ?_)
      replace hf := hf a6 ha6
      obtain ⟨h7, eh7⟩ : ∃ z, z = hs h a6 (true, .inr (18, [.int 0])) := ⟨_, rfl⟩
      try rw [← eh7] at hf
      rw [← eh7]
      refine v_dup dJ25_valueOf_26 rfl ?_
      refine v_iload_n (i := 0) dJ25_valueOf_27 rfl rfl ?_
      refine V.addK0 ?_
      refine V.addN0 ?_
      refine v_callI (mc := 0) (ms := 0) 1 dJ25_valueOf_28 (m_J25_init hG hf) rfl (lw_meth q1633) rfl q120 q1631 q1632 rfl rfl (by decide +kernel) (by decide) rfl (cat_len (Nat.le_of_ble_eq_true rfl)) (kk_V fun h8 hg => ?_) (fun _ _ _ hx => hx.elim)
      replace hf := hg
      clear hg
      exact v_qret (r := (some a6)) dJ25_valueOf_31 rfl (Or.inl ⟨_, rfl⟩) ⟨_, rfl, hf⟩
    · replace hf := hf.2 c5
      refine v_gets dJ25_valueOf_13 q1628 (List.mem_of_getElem? (i := 4) rfl) (Or.inl rfl) ?_
      replace hf := gS_e hf
      obtain ⟨r9, er9, hf⟩ := hf
      rw [← er9]
      refine v_iload_n (i := 0) dJ25_valueOf_16 rfl rfl ?_
      refine v_sipush (v := 128) dJ25_valueOf_17 (by decide) ?_
      refine v_iadd dJ25_valueOf_20 ?_
      obtain ⟨a10, rfl⟩ := aQ_s hf
      replace hf := aQ_e hf
      obtain ⟨w11, t12, N13, f14, hh15, ht16, hi17, r18, er18, hf⟩ := hf
      refine v_aald dJ25_valueOf_21 ht16 hh15 hi17 ?_
      rw [← er18]
      exact v_qret (r := r18) dJ25_valueOf_22 rfl (Or.inl ⟨_, rfl⟩) ⟨_, rfl, hf⟩
abbrev Y_X1_near : Yt := (yX1_near, some (.object "java/util/LinkedHashMap"), 6, 167, [])
def g_X1_near_0 (G : Gt) (E : Ev) (h : Hp) (k n : Nat) (a0 : Nat) (r_1 : Option Nat) (K : Option Nat → Hp → Prop) : Prop :=
nO h 17 [.null, .null, .int 0, .int 0, .int 0, .float 0, .null, .null, .null, .null, .int 0, .int 0] fun a1 h2 =>
f_J22_init_2 G h2 (some a1) (fun h3 =>
nO h3 19 [.int 0, .int 0, .null, .null] fun a4 h5 =>
f_J27_init G h5 (some a4) (fun h6 =>
nO h6 19 [.int 0, .int 0, .null, .null] fun a7 h8 =>
f_J27_init G h8 (some a7) (fun h9 =>
nO h9 19 [.int 0, .int 0, .null, .null] fun a10 h11 =>
f_J27_init G h11 (some a10) (fun h12 =>
rv h12 (some a4) 19 (f_J27_addLast G h12 (some a4) r_1 (fun h16 =>
V G E Y_X1_near cX1_near 11 (QM G E (kR K) xN) h16 k n 42 [(0, .ref a0), (2, .ref a1), (3, .ref a4), (4, .ref a7), (5, .ref a10), (6, .int (0 : Int32))] []))))))
theorem s_X1_near_0 {G : Gt} {E : Ev} {h : Hp} {k0 n0 : Nat} {a0 : Nat} {r_1 : Option Nat} {K : Option Nat → Hp → Prop} (hG : Base G) (hA : 5 ≤ k0) (hB : 27 ≤ n0) (hf : g_X1_near_0 G E h (k0 - 5) (n0 - 27) a0 r_1 K) : V G E Y_X1_near cX1_near 11 (QM G E (kR K) xN) h k0 n0 0 [(0, .ref a0), (1, va_rf r_1)] [] := by
  obtain ⟨k, hk9⟩ : ∃ z, z = k0 - 5 := ⟨_, rfl⟩
  obtain ⟨n, hn9⟩ : ∃ z, z = n0 - 27 := ⟨_, rfl⟩
  rw [← hk9, ← hn9] at hf
  refine V.weak (k' := k + 5) (n' := n + 27) ?_ (by omega) (by omega)
  unfold g_X1_near_0 at hf
  refine v_new (N := 12) (fs := [.null, .null, .int 0, .int 0, .int 0, .float 0, .null, .null, .null, .null, .int 0, .int 0]) (ci := 17) dX1_near_0 q1611 q791 q117 rfl in_J22 tyJ22 tyJ22_ok rfl (fun a1 ha1 => ?_)
  replace hf := hf a1 ha1
  obtain ⟨h2, eh2⟩ : ∃ z, z = hs h a1 (true, .inr (17, [.null, .null, .int 0, .int 0, .int 0, .float 0, .null, .null, .null, .null, .int 0, .int 0])) := ⟨_, rfl⟩
  try rw [← eh2] at hf
  rw [← eh2]
  refine v_dup dX1_near_3 rfl ?_
  refine V.addK0 ?_
  refine V.addN0 ?_
  refine v_callI (mc := 0) (ms := 0) 0 dX1_near_4 (m_J22_init_2 hG hf) rfl (lw_meth q1614) rfl q117 q1612 q1613 rfl rfl (by decide +kernel) (by decide) rfl (cat_len (Nat.le_of_ble_eq_true rfl)) (kk_V fun h3 hg => ?_) (fun _ _ _ hx => hx.elim)
  replace hf := hg
  clear hg
  refine v_astore_n (i := 2) (lv' := [(0, .ref a0), (1, va_rf r_1), (2, .ref a1)]) dX1_near_7 rfl (Nat.le_of_ble_eq_true rfl) rfl rfl ?_
  refine v_new (N := 4) (fs := [.int 0, .int 0, .null, .null]) (ci := 19) dX1_near_8 q866 q867 q122 rfl in_J27 tyJ27 tyJ27_ok rfl (fun a4 ha4 => ?_)
  replace hf := hf a4 ha4
  obtain ⟨h5, eh5⟩ : ∃ z, z = hs h3 a4 (true, .inr (19, [.int 0, .int 0, .null, .null])) := ⟨_, rfl⟩
  try rw [← eh5] at hf
  rw [← eh5]
  refine v_dup dX1_near_11 rfl ?_
  refine V.addK0 ?_
  refine V.addN0 ?_
  refine v_callI (mc := 0) (ms := 0) 0 dX1_near_12 (m_J27_init hG hf) rfl (lw_meth q870) rfl q122 q868 q869 rfl rfl (by decide +kernel) (by decide) rfl (cat_len (Nat.le_of_ble_eq_true rfl)) (kk_V fun h6 hg => ?_) (fun _ _ _ hx => hx.elim)
  replace hf := hg
  clear hg
  refine v_astore_n (i := 3) (lv' := [(0, .ref a0), (1, va_rf r_1), (2, .ref a1), (3, .ref a4)]) dX1_near_15 rfl (Nat.le_of_ble_eq_true rfl) rfl rfl ?_
  refine v_new (N := 4) (fs := [.int 0, .int 0, .null, .null]) (ci := 19) dX1_near_16 q866 q867 q122 rfl in_J27 tyJ27 tyJ27_ok rfl (fun a7 ha7 => ?_)
  replace hf := hf a7 ha7
  obtain ⟨h8, eh8⟩ : ∃ z, z = hs h6 a7 (true, .inr (19, [.int 0, .int 0, .null, .null])) := ⟨_, rfl⟩
  try rw [← eh8] at hf
  rw [← eh8]
  refine v_dup dX1_near_19 rfl ?_
  refine V.addK0 ?_
  refine V.addN0 ?_
  refine v_callI (mc := 0) (ms := 0) 0 dX1_near_20 (m_J27_init hG hf) rfl (lw_meth q870) rfl q122 q868 q869 rfl rfl (by decide +kernel) (by decide) rfl (cat_len (Nat.le_of_ble_eq_true rfl)) (kk_V fun h9 hg => ?_) (fun _ _ _ hx => hx.elim)
  replace hf := hg
  clear hg
  refine v_astore (i := 4) (lv' := [(0, .ref a0), (1, va_rf r_1), (2, .ref a1), (3, .ref a4), (4, .ref a7)]) dX1_near_23 (Nat.le_of_ble_eq_true rfl) rfl rfl ?_
  refine v_new (N := 4) (fs := [.int 0, .int 0, .null, .null]) (ci := 19) dX1_near_25 q866 q867 q122 rfl in_J27 tyJ27 tyJ27_ok rfl (fun a10 ha10 => ?_)
  replace hf := hf a10 ha10
  obtain ⟨h11, eh11⟩ : ∃ z, z = hs h9 a10 (true, .inr (19, [.int 0, .int 0, .null, .null])) := ⟨_, rfl⟩
  try rw [← eh11] at hf
  rw [← eh11]
  refine v_dup dX1_near_28 rfl ?_
  refine V.addK0 ?_
  refine V.addN0 ?_
  refine v_callI (mc := 0) (ms := 0) 0 dX1_near_29 (m_J27_init hG hf) rfl (lw_meth q870) rfl q122 q868 q869 rfl rfl (by decide +kernel) (by decide) rfl (cat_len (Nat.le_of_ble_eq_true rfl)) (kk_V fun h12 hg => ?_) (fun _ _ _ hx => hx.elim)
  replace hf := hg
  clear hg
  refine v_astore (i := 5) (lv' := [(0, .ref a0), (1, va_rf r_1), (2, .ref a1), (3, .ref a4), (4, .ref a7), (5, .ref a10)]) dX1_near_32 (Nat.le_of_ble_eq_true rfl) rfl rfl ?_
  refine v_aload_n (i := 3) dX1_near_34 rfl rfl ?_
  refine v_qload_n (r := r_1) (i := 1) dX1_near_35 rfl rfl ?_
  replace hf := rv_e hf
  obtain ⟨w13, fs14, hh15, hf⟩ := hf
  refine v_callV (mc := 1) (ms := 3) 1 dX1_near_36 (m_J27_addLast hG hf) rfl hh15 rfl (lw_V q901 q902 q903 q122 q904) rfl (by decide +kernel) (by decide) rfl (cat_len (Nat.le_of_ble_eq_true rfl)) (kk_V fun h16 hg => ?_) (fun _ _ _ hx => hx.elim)
  replace hf := hg
  clear hg
  refine v_iconst (v := 0) dX1_near_39 (by decide) ?_
  refine v_istore (i := 6) (lv' := [(0, .ref a0), (1, va_rf r_1), (2, .ref a1), (3, .ref a4), (4, .ref a7), (5, .ref a10), (6, .int (0 : Int32))]) dX1_near_40 (Nat.le_of_ble_eq_true rfl) rfl rfl ?_
  refine V.lp (lv' := [(0, .ref a0), (2, .ref a1), (3, .ref a4), (4, .ref a7), (5, .ref a10), (6, .int (0 : Int32))]) [0, 2, 3, 4, 5, 6] rfl ?_
  exact V.weak hf (by omega) (by omega)
def g_X1_near_42 (G : Gt) (E : Ev) (h : Hp) (k n : Nat) (a0 : Nat) (r_2 : Option Nat) (r_3 : Option Nat) (r_4 : Option Nat) (r_5 : Option Nat) (i_6 : Int32) (K : Option Nat → Hp → Prop) : Prop :=
rv h r_3 19 (f_J0_isEmpty G h r_3 (fun i6 h5 =>
((i6 = 0 → V G E Y_X1_near cX1_near 11 (QM G E (kR K) xN) h5 k n 57 [(0, .ref a0), (2, va_rf r_2), (3, va_rf r_3), (4, va_rf r_4), (5, va_rf r_5), (6, .int i_6)] []) ∧
(¬ (i6 = 0) → rv h5 r_4 19 (f_J0_isEmpty G h5 r_4 (fun i13 h12 =>
((¬ (i13 = 0) → K r_2 h12) ∧
(i13 = 0 → V G E Y_X1_near cX1_near 11 (QM G E (kR K) xN) h12 k n 57 [(0, .ref a0), (2, va_rf r_2), (3, va_rf r_3), (4, va_rf r_4), (5, va_rf r_5), (6, .int i_6)] []))))))))
theorem s_X1_near_42 {G : Gt} {E : Ev} {h : Hp} {k0 n0 : Nat} {a0 : Nat} {r_2 : Option Nat} {r_3 : Option Nat} {r_4 : Option Nat} {r_5 : Option Nat} {i_6 : Int32} {K : Option Nat → Hp → Prop} (hG : Base G) (hA : 0 ≤ k0) (hB : 0 ≤ n0) (hf : g_X1_near_42 G E h (k0 - 0) (n0 - 0) a0 r_2 r_3 r_4 r_5 i_6 K) : V G E Y_X1_near cX1_near 11 (QM G E (kR K) xN) h k0 n0 42 [(0, .ref a0), (2, va_rf r_2), (3, va_rf r_3), (4, va_rf r_4), (5, va_rf r_5), (6, .int i_6)] [] := by
  obtain ⟨k, hk9⟩ : ∃ z, z = k0 - 0 := ⟨_, rfl⟩
  obtain ⟨n, hn9⟩ : ∃ z, z = n0 - 0 := ⟨_, rfl⟩
  rw [← hk9, ← hn9] at hf
  refine V.weak (k' := k + 0) (n' := n + 0) ?_ (by omega) (by omega)
  unfold g_X1_near_42 at hf
  refine v_qload_n (r := r_3) (i := 3) dX1_near_42 rfl rfl ?_
  obtain ⟨a1, rfl⟩ := rv_s hf
  replace hf := rv_e hf
  obtain ⟨w2, fs3, hh4, hf⟩ := hf
  refine V.addK0 ?_
  refine V.addN0 ?_
  refine v_callU (mc := 0) (ms := 0) 0 dX1_near_43 (m_J0_isEmpty hG hf) rfl hh4 rfl (lw_U q928 q929 q931 q932 q90 q933) rfl rfl (by decide +kernel) (by decide) rfl (cat_len (Nat.le_of_ble_eq_true rfl)) (kk_I fun i6 h5 hg => ?_) (fun _ _ _ hx => hx.elim)
  replace hf := hg
  clear hg
  refine v_if_eq 57 dX1_near_46 (by decide) (fun c7 => ?_) (fun c7 => ?_)
  · replace hf := hf.1 c7
    exact V.weak hf (by omega) (by omega)
  · replace hf := hf.2 c7
    refine v_qload (r := r_4) (i := 4) dX1_near_49 rfl ?_
    obtain ⟨a8, rfl⟩ := rv_s hf
    replace hf := rv_e hf
    obtain ⟨w9, fs10, hh11, hf⟩ := hf
    refine V.addK0 ?_
    refine V.addN0 ?_
    refine v_callU (mc := 0) (ms := 0) 0 dX1_near_51 (m_J0_isEmpty hG hf) rfl hh11 rfl (lw_U q928 q929 q931 q932 q90 q933) rfl rfl (by decide +kernel) (by decide) rfl (cat_len (Nat.le_of_ble_eq_true rfl)) (kk_I fun i13 h12 hg => ?_) (fun _ _ _ hx => hx.elim)
    replace hf := hg
    clear hg
    refine v_if_ne 216 dX1_near_54 (by decide) (fun c14 => ?_) (fun c14 => ?_)
    · replace hf := hf.1 c14
      refine v_qload_n (r := r_2) (i := 2) dX1_near_216 rfl rfl ?_
      exact v_qret (r := r_2) dX1_near_217 rfl (Or.inl ⟨_, rfl⟩) ⟨_, rfl, hf⟩
    · replace hf := hf.2 c14
      exact V.weak hf (by omega) (by omega)
def g_X1_near_57 (G : Gt) (E : Ev) (h : Hp) (k n : Nat) (a0 : Nat) (r_2 : Option Nat) (r_3 : Option Nat) (r_4 : Option Nat) (r_5 : Option Nat) (i_6 : Int32) (K : Option Nat → Hp → Prop) : Prop :=
rv h r_3 19 (f_J0_isEmpty G h r_3 (fun i6 h5 =>
((¬ (i6 = 0) → V G E Y_X1_near cX1_near 11 (QM G E (kR K) xN) h5 k n 42 [(0, .ref a0), (2, va_rf r_2), (3, va_rf r_4), (4, va_rf r_5), (5, va_rf r_3), (6, .int (i_6 + (1 : Int32)))] []) ∧
(i6 = 0 → rv h5 r_3 19 (f_J27_removeFirst G h5 r_3 (fun r12 h11 =>
(oc h11 r12 6 ∧ rv h11 r_2 17 (dI G Y_J21_containsKey cJ21_containsKey 2 [va_rf r_2, va_rf r12] h11 k n (fun i18 h17 k21 n22 =>
((¬ (i18 = 0) → V G E Y_X1_near cX1_near 11 (QM G E (kR K) xN) h17 k21 n22 57 [(0, .ref a0), (2, va_rf r_2), (3, va_rf r_3), (4, va_rf r_4), (5, va_rf r_5), (6, .int i_6)] []) ∧
(i18 = 0 → f_J25_valueOf G h17 i_6 (fun r25 h24 =>
rv h24 r_2 17 (dR G Y_J21_put cJ21_put 3 [va_rf r_2, va_rf r12, va_rf r25] h24 k21 n22 (fun r30 h29 k33 n34 =>
(oc h29 r30 18 ∧ rv h29 r12 6 (f_X6_after G h29 r12 (1 : Int32) (fun r40 h39 =>
rv h39 r_4 19 (f_J27_addLast G h39 r_4 r40 (fun h45 =>
gR h45 (some a0) 1 1 fun r46 =>
rv h45 r46 10 (f_J2_iterator G h45 r46 (fun r56 h55 =>
V G E Y_X1_near cX1_near 11 (QM G E (kR K) xN) h55 k33 n34 118 [(0, .ref a0), (2, va_rf r_2), (3, va_rf r_3), (4, va_rf r_4), (5, va_rf r_5), (6, .int i_6), (7, va_rf r12), (9, va_rf r56)] [])))))))) xN))))) xN))))))))
theorem s_X1_near_57 {G : Gt} {E : Ev} {h : Hp} {k0 n0 : Nat} {a0 : Nat} {r_2 : Option Nat} {r_3 : Option Nat} {r_4 : Option Nat} {r_5 : Option Nat} {i_6 : Int32} {K : Option Nat → Hp → Prop} (hG : Base G) (hA : 4 ≤ k0) (hB : 10 ≤ n0) (hf : g_X1_near_57 G E h (k0 - 4) (n0 - 10) a0 r_2 r_3 r_4 r_5 i_6 K) : V G E Y_X1_near cX1_near 11 (QM G E (kR K) xN) h k0 n0 57 [(0, .ref a0), (2, va_rf r_2), (3, va_rf r_3), (4, va_rf r_4), (5, va_rf r_5), (6, .int i_6)] [] := by
  obtain ⟨k, hk9⟩ : ∃ z, z = k0 - 4 := ⟨_, rfl⟩
  obtain ⟨n, hn9⟩ : ∃ z, z = n0 - 10 := ⟨_, rfl⟩
  rw [← hk9, ← hn9] at hf
  refine V.weak (k' := k + 4) (n' := n + 10) ?_ (by omega) (by omega)
  unfold g_X1_near_57 at hf
  refine v_qload_n (r := r_3) (i := 3) dX1_near_57 rfl rfl ?_
  obtain ⟨a1, rfl⟩ := rv_s hf
  replace hf := rv_e hf
  obtain ⟨w2, fs3, hh4, hf⟩ := hf
  refine V.addK0 ?_
  refine V.addN0 ?_
  refine v_callU (mc := 0) (ms := 0) 0 dX1_near_58 (m_J0_isEmpty hG hf) rfl hh4 rfl (lw_U q928 q929 q931 q932 q90 q933) rfl rfl (by decide +kernel) (by decide) rfl (cat_len (Nat.le_of_ble_eq_true rfl)) (kk_I fun i6 h5 hg => ?_) (fun _ _ _ hx => hx.elim)
  replace hf := hg
  clear hg
  refine v_if_ne 196 dX1_near_61 (by decide) (fun c7 => ?_) (fun c7 => ?_)
  · replace hf := hf.1 c7
    refine v_qload_n (r := (some a1)) (i := 3) dX1_near_196 rfl rfl ?_
    refine v_qstore (i := 7) (r := (some a1)) (lv' := [(0, .ref a0), (2, va_rf r_2), (3, va_rf (some a1)), (4, va_rf r_4), (5, va_rf r_5), (6, .int i_6), (7, va_rf (some a1))]) dX1_near_197 (Nat.le_of_ble_eq_true rfl) rfl rfl ?_
    refine v_qload (r := r_4) (i := 4) dX1_near_199 rfl ?_
    refine v_qstore_n (i := 3) (r := r_4) (lv' := [(0, .ref a0), (2, va_rf r_2), (3, va_rf r_4), (4, va_rf r_4), (5, va_rf r_5), (6, .int i_6), (7, va_rf (some a1))]) dX1_near_201 rfl (Nat.le_of_ble_eq_true rfl) rfl rfl ?_
    refine v_qload (r := r_5) (i := 5) dX1_near_202 rfl ?_
    refine v_qstore (i := 4) (r := r_5) (lv' := [(0, .ref a0), (2, va_rf r_2), (3, va_rf r_4), (4, va_rf r_5), (5, va_rf r_5), (6, .int i_6), (7, va_rf (some a1))]) dX1_near_204 (Nat.le_of_ble_eq_true rfl) rfl rfl ?_
    refine v_qload (r := (some a1)) (i := 7) dX1_near_206 rfl ?_
    refine v_qstore (i := 5) (r := (some a1)) (lv' := [(0, .ref a0), (2, va_rf r_2), (3, va_rf r_4), (4, va_rf r_5), (5, va_rf (some a1)), (6, .int i_6), (7, va_rf (some a1))]) dX1_near_208 (Nat.le_of_ble_eq_true rfl) rfl rfl ?_
    refine v_iinc (i := 6) (v := i_6 + (1 : Int32)) (lv' := [(0, .ref a0), (2, va_rf r_2), (3, va_rf r_4), (4, va_rf r_5), (5, va_rf (some a1)), (6, .int (i_6 + (1 : Int32))), (7, va_rf (some a1))]) dX1_near_210 rfl rfl (Nat.le_of_ble_eq_true rfl) rfl rfl ?_
    refine v_goto 42 dX1_near_213 (by decide) ?_
    refine V.lp (lv' := [(0, .ref a0), (2, va_rf r_2), (3, va_rf r_4), (4, va_rf r_5), (5, va_rf (some a1)), (6, .int (i_6 + (1 : Int32)))]) [0, 1, 2, 3, 4, 5] rfl ?_
    exact V.weak hf (by omega) (by omega)
  · replace hf := hf.2 c7
    refine v_qload_n (r := (some a1)) (i := 3) dX1_near_64 rfl rfl ?_
    replace hf := rv_e hf
    obtain ⟨w8, fs9, hh10, hf⟩ := hf
    refine V.addK0 ?_
    refine V.addN0 ?_
    refine v_callV (mc := 0) (ms := 0) 0 dX1_near_65 (m_J27_removeFirst hG hf) rfl hh10 rfl (lw_V q956 q957 q958 q122 q959) rfl (by decide +kernel) (by decide) rfl (cat_len (Nat.le_of_ble_eq_true rfl)) (kk_R fun r12 h11 hg => ?_) (fun _ _ _ hx => hx.elim)
    replace hf := hg
    clear hg
    obtain ⟨hoc, hf⟩ := hf
    refine v_castQS (r := r12) dX1_near_68 q886 hoc rfl ?_
    refine v_qstore (i := 7) (r := r12) (lv' := [(0, .ref a0), (2, va_rf r_2), (3, va_rf (some a1)), (4, va_rf r_4), (5, va_rf r_5), (6, .int i_6), (7, va_rf r12)]) dX1_near_71 (Nat.le_of_ble_eq_true rfl) rfl rfl ?_
    refine v_qload_n (r := r_2) (i := 2) dX1_near_73 rfl rfl ?_
    refine v_qload (r := r12) (i := 7) dX1_near_74 rfl ?_
    obtain ⟨a13, rfl⟩ := rv_s hf
    replace hf := rv_e hf
    obtain ⟨w14, fs15, hh16, hf⟩ := hf
    obtain ⟨mc19, ms20, hkmc19, hnms20, hM⟩ := hf
    refine V.weak (k' := ((k - mc19) + 4) + mc19) (n' := ((n - ms20) + 10) + ms20) ?_ (by omega) (by omega)
    refine v_callU 1 dX1_near_76 hM rfl hh16 rfl (lw_U q1619 q1620 q1622 q1529 q116 q1532) rfl rfl (by decide +kernel) (by decide) rfl (cat_len (Nat.le_of_ble_eq_true rfl)) (kk_I fun i18 h17 hg => ?_) (fun _ _ _ hx => hx.elim)
    have hf := hg
    clear hg
    refine v_if_ne 193 dX1_near_79 (by decide) (fun c23 => ?_) (fun c23 => ?_)
    · replace hf := hf.1 c23
      refine v_goto 57 dX1_near_193 (by decide) ?_
      refine V.lp (lv' := [(0, .ref a0), (2, va_rf (some a13)), (3, va_rf (some a1)), (4, va_rf r_4), (5, va_rf r_5), (6, .int i_6)]) [0, 1, 2, 3, 4, 5] rfl ?_
      exact V.weak hf (by omega) (by omega)
    · replace hf := hf.2 c23
      refine v_qload_n (r := (some a13)) (i := 2) dX1_near_82 rfl rfl ?_
      refine v_qload (r := r12) (i := 7) dX1_near_83 rfl ?_
      refine v_iload (i := 6) dX1_near_85 rfl ?_
      refine v_callS (mc := 1) (ms := 1) 1 dX1_near_87 (m_J25_valueOf hG hf) rfl (lw_S q1623 q1624 q120 q1625) rfl (by decide +kernel) (by decide) rfl (cat_len (Nat.le_of_ble_eq_true rfl)) (kk_R fun r25 h24 hg => ?_) (fun _ _ _ hx => hx.elim)
      replace hf := hg
      clear hg
      replace hf := rv_e hf
      obtain ⟨w26, fs27, hh28, hf⟩ := hf
      obtain ⟨mc31, ms32, hkmc31, hnms32, hM⟩ := hf
      refine V.weak (k' := (((k - mc19) - mc31) + 3) + mc31) (n' := (((n - ms20) - ms32) + 9) + ms32) ?_ (by omega) (by omega)
      refine v_callU 2 dX1_near_90 hM rfl hh28 rfl (lw_U q1642 q1643 q1645 q973 q116 q976) rfl rfl (by decide +kernel) (by decide) rfl (cat_len (Nat.le_of_ble_eq_true rfl)) (kk_R fun r30 h29 hg => ?_) (fun _ _ _ hx => hx.elim)
      have hf := hg
      clear hg
      obtain ⟨hoc, hf⟩ := hf
      refine v_castQS (r := r30) dX1_near_93 q1646 hoc rfl ?_
      refine v_qstore (i := 8) (r := r30) (lv' := [(0, .ref a0), (2, va_rf (some a13)), (3, va_rf (some a1)), (4, va_rf r_4), (5, va_rf r_5), (6, .int i_6), (7, va_rf r12), (8, va_rf r30)]) dX1_near_96 (Nat.le_of_ble_eq_true rfl) rfl rfl ?_
      refine v_qload (r := r_4) (i := 4) dX1_near_98 rfl ?_
      refine v_qload (r := r12) (i := 7) dX1_near_100 rfl ?_
      refine v_iconst (v := 1) dX1_near_102 (by decide) ?_
      obtain ⟨a35, rfl⟩ := rv_s hf
      replace hf := rv_e hf
      obtain ⟨w36, fs37, hh38, hf⟩ := hf
      refine v_callV (mc := 1) (ms := 2) 1 dX1_near_103 (m_X6_after hG hf) rfl hh38 rfl (lw_V q1517 q1518 q1519 q123 q1520) rfl (by decide +kernel) (by decide) rfl (cat_len (Nat.le_of_ble_eq_true rfl)) (kk_R fun r40 h39 hg => ?_) (fun _ _ _ hx => hx.elim)
      replace hf := hg
      clear hg
      obtain ⟨a41, rfl⟩ := rv_s hf
      replace hf := rv_e hf
      obtain ⟨w42, fs43, hh44, hf⟩ := hf
      refine v_callV (mc := 1) (ms := 3) 1 dX1_near_106 (m_J27_addLast hG hf) rfl hh44 rfl (lw_V q901 q902 q903 q122 q904) rfl (by decide +kernel) (by decide) rfl (cat_len (Nat.le_of_ble_eq_true rfl)) (kk_V fun h45 hg => ?_) (fun _ _ _ hx => hx.elim)
      replace hf := hg
      clear hg
      refine v_aload_n (i := 0) dX1_near_109 rfl rfl ?_
      replace hf := gR_e hf
      obtain ⟨w47, fs48, r46, hh49, hk50, hf⟩ := hf
      refine v_getf (T := TX1) (ci := 1) 1 dX1_near_110 q190 rfl in_X1 (Nat.le_of_ble_eq_true rfl) (Or.inl rfl) hh49 hk50 ?_
      obtain ⟨a51, rfl⟩ := rv_s hf
      replace hf := rv_e hf
      obtain ⟨w52, fs53, hh54, hf⟩ := hf
      refine v_callV (mc := 1) (ms := 4) 0 dX1_near_113 (m_J2_iterator hG hf) rfl hh54 rfl (lw_V q315 q316 q317 q92 q318) rfl (by decide +kernel) (by decide) rfl (cat_len (Nat.le_of_ble_eq_true rfl)) (kk_R fun r56 h55 hg => ?_) (fun _ _ _ hx => hx.elim)
      replace hf := hg
      clear hg
      refine v_qstore (i := 9) (r := r56) (lv' := [(0, .ref a0), (2, va_rf (some a13)), (3, va_rf (some a1)), (4, va_rf (some a41)), (5, va_rf r_5), (6, .int i_6), (7, va_rf (some a35)), (8, va_rf r30), (9, va_rf r56)]) dX1_near_116 (Nat.le_of_ble_eq_true rfl) rfl rfl ?_
      refine V.lp (lv' := [(0, .ref a0), (2, va_rf (some a13)), (3, va_rf (some a1)), (4, va_rf (some a41)), (5, va_rf r_5), (6, .int i_6), (7, va_rf (some a35)), (9, va_rf r56)]) [0, 1, 2, 3, 4, 5, 6, 8] rfl ?_
      exact V.weak hf (by omega) (by omega)
def g_X1_near_118 (G : Gt) (E : Ev) (h : Hp) (k n : Nat) (a0 : Nat) (r_2 : Option Nat) (r_3 : Option Nat) (r_4 : Option Nat) (r_5 : Option Nat) (i_6 : Int32) (r_7 : Option Nat) (r_9 : Option Nat) (K : Option Nat → Hp → Prop) : Prop :=
rv h r_9 11 (f_J8_hasNext G h r_9 (fun i6 h5 =>
((i6 = 0 → V G E Y_X1_near cX1_near 11 (QM G E (kR K) xN) h5 k n 57 [(0, .ref a0), (2, va_rf r_2), (3, va_rf r_3), (4, va_rf r_4), (5, va_rf r_5), (6, .int i_6)] []) ∧
(¬ (i6 = 0) → rv h5 r_9 11 (f_J8_next G h5 r_9 (fun r12 h11 =>
(oc h11 r12 5 ∧ rv h11 (some a0) 1 (f_X1_goesOn G h11 (some a0) r_7 r12 (fun i17 h16 =>
((i17 = 0 → V G E Y_X1_near cX1_near 11 (QM G E (kR K) xN) h16 k n 118 [(0, .ref a0), (2, va_rf r_2), (3, va_rf r_3), (4, va_rf r_4), (5, va_rf r_5), (6, .int i_6), (7, va_rf r_7), (9, va_rf r_9)] []) ∧
(¬ (i17 = 0) → gR h16 (some a0) 1 0 fun r19 =>
gI h16 r_7 6 0 fun i24 =>
rv h16 r19 10 (f_J2_get G h16 r19 i24 (fun r35 h34 =>
(oc h34 r35 3 ∧ rv h34 r35 3 (f_X3_isLit G h34 r35 (fun i41 h40 =>
((i41 = 0 → rv h40 (some a0) 1 (f_X1_behind G h40 (some a0) r_7 r12 (fun r47 h46 =>
rv h46 r_5 19 (f_J27_addLast G h46 r_5 r47 (fun h52 =>
V G E Y_X1_near cX1_near 11 (QM G E (kR K) xN) h52 k n 118 [(0, .ref a0), (2, va_rf r_2), (3, va_rf r_3), (4, va_rf r_4), (5, va_rf r_5), (6, .int i_6), (7, va_rf r_7), (9, va_rf r_9)] []))))) ∧
(¬ (i41 = 0) → rv h40 (some a0) 1 (f_X1_behind G h40 (some a0) r_7 r12 (fun r57 h56 =>
rv h56 r_4 19 (f_J27_addLast G h56 r_4 r57 (fun h62 =>
V G E Y_X1_near cX1_near 11 (QM G E (kR K) xN) h62 k n 118 [(0, .ref a0), (2, va_rf r_2), (3, va_rf r_3), (4, va_rf r_4), (5, va_rf r_5), (6, .int i_6), (7, va_rf r_7), (9, va_rf r_9)] []))))))))))))))))))))))
theorem s_X1_near_118 {G : Gt} {E : Ev} {h : Hp} {k0 n0 : Nat} {a0 : Nat} {r_2 : Option Nat} {r_3 : Option Nat} {r_4 : Option Nat} {r_5 : Option Nat} {i_6 : Int32} {r_7 : Option Nat} {r_9 : Option Nat} {K : Option Nat → Hp → Prop} (hG : Base G) (hA : 2 ≤ k0) (hB : 5 ≤ n0) (hf : g_X1_near_118 G E h (k0 - 2) (n0 - 5) a0 r_2 r_3 r_4 r_5 i_6 r_7 r_9 K) : V G E Y_X1_near cX1_near 11 (QM G E (kR K) xN) h k0 n0 118 [(0, .ref a0), (2, va_rf r_2), (3, va_rf r_3), (4, va_rf r_4), (5, va_rf r_5), (6, .int i_6), (7, va_rf r_7), (9, va_rf r_9)] [] := by
  obtain ⟨k, hk9⟩ : ∃ z, z = k0 - 2 := ⟨_, rfl⟩
  obtain ⟨n, hn9⟩ : ∃ z, z = n0 - 5 := ⟨_, rfl⟩
  rw [← hk9, ← hn9] at hf
  refine V.weak (k' := k + 2) (n' := n + 5) ?_ (by omega) (by omega)
  unfold g_X1_near_118 at hf
  refine v_qload (r := r_9) (i := 9) dX1_near_118 rfl ?_
  obtain ⟨a1, rfl⟩ := rv_s hf
  replace hf := rv_e hf
  obtain ⟨w2, fs3, hh4, hf⟩ := hf
  refine V.addK0 ?_
  refine V.addN0 ?_
  refine v_callF (mc := 0) (ms := 0) 0 dX1_near_120 (m_J8_hasNext hG hf) rfl hh4 rfl (lw_F q339 q343 q345 q99 q347) (fun C9 => v_Fw C9 (by decide) q341 q340 q346 q344 q342) rfl (by decide +kernel) (by decide) rfl (cat_len (Nat.le_of_ble_eq_true rfl)) (kk_I fun i6 h5 hg => ?_) (fun _ _ _ hx => hx.elim)
  replace hf := hg
  clear hg
  refine v_if_eq 193 dX1_near_125 (by decide) (fun c7 => ?_) (fun c7 => ?_)
  · replace hf := hf.1 c7
    refine v_goto 57 dX1_near_193 (by decide) ?_
    refine V.lp (lv' := [(0, .ref a0), (2, va_rf r_2), (3, va_rf r_3), (4, va_rf r_4), (5, va_rf r_5), (6, .int i_6)]) [0, 1, 2, 3, 4, 5] rfl ?_
    exact V.weak hf (by omega) (by omega)
  · replace hf := hf.2 c7
    refine v_qload (r := (some a1)) (i := 9) dX1_near_128 rfl ?_
    replace hf := rv_e hf
    obtain ⟨w8, fs9, hh10, hf⟩ := hf
    refine V.addK0 ?_
    refine V.addN0 ?_
    refine v_callF (mc := 0) (ms := 0) 0 dX1_near_130 (m_J8_next hG hf) rfl hh10 rfl (lw_F q361 q364 q366 q99 q368) (fun C9 => v_Fw C9 (by decide) q363 q362 q367 q365 q342) rfl (by decide +kernel) (by decide) rfl (cat_len (Nat.le_of_ble_eq_true rfl)) (kk_R fun r12 h11 hg => ?_) (fun _ _ _ hx => hx.elim)
    replace hf := hg
    clear hg
    obtain ⟨hoc, hf⟩ := hf
    refine v_castQS (r := r12) dX1_near_135 q499 hoc rfl ?_
    refine v_qstore (i := 10) (r := r12) (lv' := [(0, .ref a0), (2, va_rf r_2), (3, va_rf r_3), (4, va_rf r_4), (5, va_rf r_5), (6, .int i_6), (7, va_rf r_7), (9, va_rf (some a1)), (10, va_rf r12)]) dX1_near_138 (Nat.le_of_ble_eq_true rfl) rfl rfl ?_
    refine v_aload_n (i := 0) dX1_near_140 rfl rfl ?_
    refine v_qload (r := r_7) (i := 7) dX1_near_141 rfl ?_
    refine v_qload (r := r12) (i := 10) dX1_near_143 rfl ?_
    replace hf := rv_e hf
    obtain ⟨w13, fs14, hh15, hf⟩ := hf
    refine V.addK0 ?_
    refine V.addN0 ?_
    refine v_callV (mc := 0) (ms := 0) 2 dX1_near_145 (m_X1_goesOn hG hf) rfl hh15 rfl (lw_V q1571 q1573 qs17 q89 q1574) rfl (by decide +kernel) (by decide) rfl (cat_len (Nat.le_of_ble_eq_true rfl)) (kk_I fun i17 h16 hg => ?_) (fun _ _ _ hx => hx.elim)
    replace hf := hg
    clear hg
    refine v_if_eq 190 dX1_near_148 (by decide) (fun c18 => ?_) (fun c18 => ?_)
    · replace hf := hf.1 c18
      refine v_goto 118 dX1_near_190 (by decide) ?_
      refine V.lp (lv' := [(0, .ref a0), (2, va_rf r_2), (3, va_rf r_3), (4, va_rf r_4), (5, va_rf r_5), (6, .int i_6), (7, va_rf r_7), (9, va_rf (some a1))]) [0, 1, 2, 3, 4, 5, 6, 7] rfl ?_
      exact V.weak hf (by omega) (by omega)
    · replace hf := hf.2 c18
      refine v_aload_n (i := 0) dX1_near_151 rfl rfl ?_
      replace hf := gR_e hf
      obtain ⟨w20, fs21, r19, hh22, hk23, hf⟩ := hf
      refine v_getf (T := TX1) (ci := 1) 0 dX1_near_152 q188 rfl in_X1 (Nat.le_of_ble_eq_true rfl) (Or.inl rfl) hh22 hk23 ?_
      refine v_qload (r := r_7) (i := 7) dX1_near_155 rfl ?_
      obtain ⟨a25, rfl⟩ := gI_s hf
      replace hf := gI_e hf
      obtain ⟨w26, fs27, i24, hh28, hk29, hf⟩ := hf
      refine v_getfN (T := TX6) (ci := 6) 0 dX1_near_157 q893 rfl in_X6 (Nat.le_of_ble_eq_true rfl) (Or.inl rfl) hh28 hk29 ?_
      obtain ⟨a30, rfl⟩ := rv_s hf
      replace hf := rv_e hf
      obtain ⟨w31, fs32, hh33, hf⟩ := hf
      refine V.addK0 ?_
      refine V.addN0 ?_
      refine v_callV (mc := 0) (ms := 0) 1 dX1_near_160 (m_J2_get hG hf) rfl hh33 rfl (lw_V q660 q661 q662 q92 q663) rfl (by decide +kernel) (by decide) rfl (cat_len (Nat.le_of_ble_eq_true rfl)) (kk_R fun r35 h34 hg => ?_) (fun _ _ _ hx => hx.elim)
      replace hf := hg
      clear hg
      obtain ⟨hoc, hf⟩ := hf
      refine v_castQS (r := r35) dX1_near_163 q402 hoc rfl ?_
      obtain ⟨a36, rfl⟩ := rv_s hf
      replace hf := rv_e hf
      obtain ⟨w37, fs38, hh39, hf⟩ := hf
      refine V.addK0 ?_
      refine V.addN0 ?_
      refine v_callV (mc := 0) (ms := 0) 0 dX1_near_166 (m_X3_isLit hG hf) rfl hh39 rfl (lw_V q1647 q1580 q1581 q100 q1582) rfl (by decide +kernel) (by decide) rfl (cat_len (Nat.le_of_ble_eq_true rfl)) (kk_I fun i41 h40 hg => ?_) (fun _ _ _ hx => hx.elim)
      replace hf := hg
      clear hg
      refine v_if_eq 177 dX1_near_169 (by decide) (fun c42 => ?_) (fun c42 => ?_)
      · replace hf := hf.1 c42
        refine v_qload (r := r_5) (i := 5) dX1_near_177 rfl ?_
        refine v_aload_n (i := 0) dX1_near_179 rfl rfl ?_
        refine v_qload (r := (some a25)) (i := 7) dX1_near_180 rfl ?_
        refine v_qload (r := r12) (i := 10) dX1_near_182 rfl ?_
        replace hf := rv_e hf
        obtain ⟨w43, fs44, hh45, hf⟩ := hf
        refine v_callV (mc := 1) (ms := 2) 2 dX1_near_184 (m_X1_behind hG hf) rfl hh45 rfl (lw_V q1587 q1589 qs18 q89 q1590) rfl (by decide +kernel) (by decide) rfl (cat_len (Nat.le_of_ble_eq_true rfl)) (kk_R fun r47 h46 hg => ?_) (fun _ _ _ hx => hx.elim)
        replace hf := hg
        clear hg
        obtain ⟨a48, rfl⟩ := rv_s hf
        replace hf := rv_e hf
        obtain ⟨w49, fs50, hh51, hf⟩ := hf
        refine v_callV (mc := 1) (ms := 3) 1 dX1_near_187 (m_J27_addLast hG hf) rfl hh51 rfl (lw_V q901 q902 q903 q122 q904) rfl (by decide +kernel) (by decide) rfl (cat_len (Nat.le_of_ble_eq_true rfl)) (kk_V fun h52 hg => ?_) (fun _ _ _ hx => hx.elim)
        replace hf := hg
        clear hg
        refine v_goto 118 dX1_near_190 (by decide) ?_
        refine V.lp (lv' := [(0, .ref a0), (2, va_rf r_2), (3, va_rf r_3), (4, va_rf r_4), (5, va_rf (some a48)), (6, .int i_6), (7, va_rf (some a25)), (9, va_rf (some a1))]) [0, 1, 2, 3, 4, 5, 6, 7] rfl ?_
        exact V.weak hf (by omega) (by omega)
      · replace hf := hf.2 c42
        refine v_qload (r := r_4) (i := 4) dX1_near_172 rfl ?_
        refine v_goto 179 dX1_near_174 (by decide) ?_
        refine v_aload_n (i := 0) dX1_near_179 rfl rfl ?_
        refine v_qload (r := (some a25)) (i := 7) dX1_near_180 rfl ?_
        refine v_qload (r := r12) (i := 10) dX1_near_182 rfl ?_
        replace hf := rv_e hf
        obtain ⟨w53, fs54, hh55, hf⟩ := hf
        refine v_callV (mc := 1) (ms := 2) 2 dX1_near_184 (m_X1_behind hG hf) rfl hh55 rfl (lw_V q1587 q1589 qs18 q89 q1590) rfl (by decide +kernel) (by decide) rfl (cat_len (Nat.le_of_ble_eq_true rfl)) (kk_R fun r57 h56 hg => ?_) (fun _ _ _ hx => hx.elim)
        replace hf := hg
        clear hg
        obtain ⟨a58, rfl⟩ := rv_s hf
        replace hf := rv_e hf
        obtain ⟨w59, fs60, hh61, hf⟩ := hf
        refine v_callV (mc := 1) (ms := 3) 1 dX1_near_187 (m_J27_addLast hG hf) rfl hh61 rfl (lw_V q901 q902 q903 q122 q904) rfl (by decide +kernel) (by decide) rfl (cat_len (Nat.le_of_ble_eq_true rfl)) (kk_V fun h62 hg => ?_) (fun _ _ _ hx => hx.elim)
        replace hf := hg
        clear hg
        refine v_goto 118 dX1_near_190 (by decide) ?_
        refine V.lp (lv' := [(0, .ref a0), (2, va_rf r_2), (3, va_rf r_3), (4, va_rf (some a58)), (5, va_rf r_5), (6, .int i_6), (7, va_rf (some a25)), (9, va_rf (some a1))]) [0, 1, 2, 3, 4, 5, 6, 7] rfl ?_
        exact V.weak hf (by omega) (by omega)
theorem b_X1_near {G : Gt} {h : Hp} {mc ms : Nat} {a0 : Nat} {r_1 : Option Nat} {K : Option Nat → Hp → Prop} (hG : Base G) (hf : ∀ E : Ev, V G E Y_X1_near cX1_near 11 (QM G E (kR K) xN) h mc ms 0 [(0, .ref a0), (1, va_rf r_1)] []) : MM G Y_X1_near cX1_near 11 mc ms [.ref a0, va_rf r_1] h (kR K) xN := mm_of hG (by decide +kernel) rfl (ac_c rfl (ac_c (rf_cat _) ac_nil)) (Nat.le_of_ble_eq_true rfl) (fun E _ _ => hf E)
abbrev Y_X1_way : Yt := (yX1_way, some (.int), 7, 197, [])
def f_X1_way (G : Gt) (h : Hp) (k n : Nat) (t_0 : Option Nat) (i_1 : Int32) (i_2 : Int32) (i_3 : Int32) (K : Int32 → Hp → Prop) : Prop :=
nO h 6 [.int 0, .int 0] fun a1 h2 =>
f_X6_init G h2 (some a1) i_1 i_3 (fun h3 =>
rv h3 t_0 1 (dR G Y_X1_near cX1_near 11 [va_rf t_0, .ref a1] h3 k n (fun r8 h7 k11 n12 =>
dI G Y_X1_fewest cX1_fewest 5 [va_rf r8, .int i_2] h7 k11 n12 (fun i14 h13 k17 n18 =>
K i14 h13) xN) xN))
theorem m_X1_way {G : Gt} {h : Hp} {mc ms : Nat} {a0 : Nat} {i_1 : Int32} {i_2 : Int32} {i_3 : Int32} {K : Int32 → Hp → Prop} (hG : Base G) (hA : 1 ≤ mc) (hB : 2 ≤ ms) (hf : f_X1_way G h (mc - 1) (ms - 2) (some a0) i_1 i_2 i_3 K) : MM G Y_X1_way cX1_way 4 mc ms [.ref a0, .int i_1, .int i_2, .int i_3] h (kI K) xN := by
  refine mm_of hG (by decide +kernel) rfl (ac_c rfl (ac_c rfl (ac_c rfl (ac_c rfl ac_nil)))) (Nat.le_of_ble_eq_true rfl) (fun E _ _ => ?_)
  obtain ⟨k, hk9⟩ : ∃ z, z = mc - 1 := ⟨_, rfl⟩
  obtain ⟨n, hn9⟩ : ∃ z, z = ms - 2 := ⟨_, rfl⟩
  rw [← hk9, ← hn9] at hf
  refine V.weak (k' := k + 1) (n' := n + 2) ?_ (by omega) (by omega)
  show V G E Y_X1_way cX1_way 4 (QM G E (kI K) xN) h (k + 1) (n + 2) 0 [(0, .ref a0), (1, .int i_1), (2, .int i_2), (3, .int i_3)] []
  unfold f_X1_way at hf
  refine v_qload_n (r := (some a0)) (i := 0) dX1_way_0 rfl rfl ?_
  refine v_new (N := 2) (fs := [.int 0, .int 0]) (ci := 6) dX1_way_1 q886 q887 q123 rfl in_X6 tyX6 tyX6_ok rfl (fun a1 ha1 => ?_)
  replace hf := hf a1 ha1
  obtain ⟨h2, eh2⟩ : ∃ z, z = hs h a1 (true, .inr (6, [.int 0, .int 0])) := ⟨_, rfl⟩
  try rw [← eh2] at hf
  rw [← eh2]
  refine v_dup dX1_way_4 rfl ?_
  refine v_iload_n (i := 1) dX1_way_5 rfl rfl ?_
  refine v_iload_n (i := 3) dX1_way_6 rfl rfl ?_
  refine V.addK0 ?_
  refine V.addN0 ?_
  refine v_callI (mc := 0) (ms := 0) 2 dX1_way_7 (m_X6_init hG hf) rfl (lw_meth q890) rfl q123 q888 q889 rfl rfl (by decide +kernel) (by decide) rfl (cat_len (Nat.le_of_ble_eq_true rfl)) (kk_V fun h3 hg => ?_) (fun _ _ _ hx => hx.elim)
  replace hf := hg
  clear hg
  replace hf := rv_e hf
  obtain ⟨w4, fs5, hh6, hf⟩ := hf
  obtain ⟨mc9, ms10, hkmc9, hnms10, hM⟩ := hf
  refine V.weak (k' := ((k - mc9) + 0) + mc9) (n' := ((n - ms10) + 0) + ms10) ?_ (by omega) (by omega)
  refine v_callV 1 dX1_way_10 hM rfl hh6 rfl (lw_V q1607 q1609 qs19 q89 q1610) rfl (by decide +kernel) (by decide) rfl (cat_len (Nat.le_of_ble_eq_true rfl)) (kk_R fun r8 h7 hg => ?_) (fun _ _ _ hx => hx.elim)
  have hf := hg
  clear hg
  refine v_iload_n (i := 2) dX1_way_13 rfl rfl ?_
  obtain ⟨mc15, ms16, hkmc15, hnms16, hM⟩ := hf
  refine V.weak (k' := (((k - mc9) - mc15) + 0) + mc15) (n' := (((n - ms10) - ms16) + 0) + ms16) ?_ (by omega) (by omega)
  refine v_callS 2 dX1_way_14 hM rfl (lw_S q1648 q1649 q89 q1650) rfl (by decide +kernel) (by decide) rfl (cat_len (Nat.le_of_ble_eq_true rfl)) (kk_I fun i14 h13 hg => ?_) (fun _ _ _ hx => hx.elim)
  have hf := hg
  clear hg
  exact v_iret dX1_way_17 rfl ⟨_, rfl, hf⟩
abbrev Y_X1_ofRoom : Yt := (yX1_ofRoom, some (.int), 8, 220, [])
def f_X1_ofRoom (G : Gt) (h : Hp) (k n : Nat) (t_0 : Option Nat) (i_1 : Int32) (i_2 : Int32) (K : Int32 → Hp → Prop) : Prop :=
gR h t_0 1 0 fun r1 =>
rv h r1 10 (f_J2_get G h r1 i_1 (fun r11 h10 =>
(oc h10 r11 3 ∧ ((i_2 = (0 : Int32) → gI h10 r11 3 1 fun i12 =>
K i12 h10) ∧
(i_2 = (1 : Int32) → gR h10 r11 3 0 fun r18 =>
aI h10 r18 0 (i_2 - (1 : Int32)) fun i30 =>
K i30 h10) ∧
(i_2 = (2 : Int32) → gR h10 r11 3 0 fun r31 =>
aI h10 r31 0 (i_2 - (1 : Int32)) fun i43 =>
K i43 h10) ∧
(i_2 = (3 : Int32) → gR h10 r11 3 0 fun r44 =>
aI h10 r44 0 (i_2 - (1 : Int32)) fun i56 =>
K i56 h10) ∧
(i_2 = (4 : Int32) → rv h10 t_0 1 (dI G Y_X1_doorsOf cX1_doorsOf 5 [va_rf t_0, .int i_1] h10 k n (fun i61 h60 k64 n65 =>
K i61 h60) xN)) ∧
(i_2 = (5 : Int32) → rv h10 t_0 1 (dR G Y_X1_doubled cX1_doubled 7 [va_rf t_0] h10 k n (fun r70 h69 k73 n74 =>
rv h69 r70 15 (f_J16_get G h69 r70 i_1 (fun i80 h79 =>
((i80 = 0 → K (0 : Int32) h79) ∧
(¬ (i80 = 0) → K (1 : Int32) h79))))) xN)) ∧
(i_2 = (6 : Int32) → gI h10 t_0 1 3 fun i82 =>
gI h10 t_0 1 4 fun i87 =>
rv h10 t_0 1 (dI G Y_X1_way cX1_way 4 [va_rf t_0, .int i82, .int i_1, .int (i87 - i87 / (2 : Int32) * (2 : Int32))] h10 k n (fun i96 h95 k99 n100 =>
K i96 h95) xN)) ∧
(i_2.toInt < 0 ∨ 6 < i_2.toInt → K (-1012 : Int32) h10)))))
theorem m_X1_ofRoom {G : Gt} {h : Hp} {mc ms : Nat} {a0 : Nat} {i_1 : Int32} {i_2 : Int32} {K : Int32 → Hp → Prop} (hG : Base G) (hA : 0 ≤ mc) (hB : 0 ≤ ms) (hf : f_X1_ofRoom G h (mc - 0) (ms - 0) (some a0) i_1 i_2 K) : MM G Y_X1_ofRoom cX1_ofRoom 4 mc ms [.ref a0, .int i_1, .int i_2] h (kI K) xN := by
  refine mm_of hG (by decide +kernel) rfl (ac_c rfl (ac_c rfl (ac_c rfl ac_nil))) (Nat.le_of_ble_eq_true rfl) (fun E _ _ => ?_)
  obtain ⟨k, hk9⟩ : ∃ z, z = mc - 0 := ⟨_, rfl⟩
  obtain ⟨n, hn9⟩ : ∃ z, z = ms - 0 := ⟨_, rfl⟩
  rw [← hk9, ← hn9] at hf
  refine V.weak (k' := k + 0) (n' := n + 0) ?_ (by omega) (by omega)
  show V G E Y_X1_ofRoom cX1_ofRoom 4 (QM G E (kI K) xN) h (k + 0) (n + 0) 0 [(0, .ref a0), (1, .int i_1), (2, .int i_2)] []
  unfold f_X1_ofRoom at hf
  refine v_qload_n (r := (some a0)) (i := 0) dX1_ofRoom_0 rfl rfl ?_
  replace hf := gR_e hf
  obtain ⟨w2, fs3, r1, hh4, hk5, hf⟩ := hf
  refine v_getf (T := TX1) (ci := 1) 0 dX1_ofRoom_1 q188 rfl in_X1 (Nat.le_of_ble_eq_true rfl) (Or.inl rfl) hh4 hk5 ?_
  refine v_iload_n (i := 1) dX1_ofRoom_4 rfl rfl ?_
  obtain ⟨a6, rfl⟩ := rv_s hf
  replace hf := rv_e hf
  obtain ⟨w7, fs8, hh9, hf⟩ := hf
  refine V.addK0 ?_
  refine V.addN0 ?_
  refine v_callV (mc := 0) (ms := 0) 1 dX1_ofRoom_5 (m_J2_get hG hf) rfl hh9 rfl (lw_V q660 q661 q662 q92 q663) rfl (by decide +kernel) (by decide) rfl (cat_len (Nat.le_of_ble_eq_true rfl)) (kk_R fun r11 h10 hg => ?_) (fun _ _ _ hx => hx.elim)
  replace hf := hg
  clear hg
  obtain ⟨hoc, hf⟩ := hf
  refine v_castQS (r := r11) dX1_ofRoom_8 q402 hoc rfl ?_
  refine v_qstore_n (i := 3) (r := r11) (lv' := [(0, va_rf (some a0)), (1, .int i_1), (2, .int i_2), (3, va_rf r11)]) dX1_ofRoom_11 rfl (Nat.le_of_ble_eq_true rfl) rfl rfl ?_
  refine v_iload_n (i := 2) dX1_ofRoom_12 rfl rfl ?_
  have hx : i_2.toInt = 0 ∨ i_2.toInt = 1 ∨ i_2.toInt = 2 ∨ i_2.toInt = 3 ∨ i_2.toInt = 4 ∨ i_2.toInt = 5 ∨ i_2.toInt = 6 ∨ (i_2.toInt < 0 ∨ 6 < i_2.toInt) := by omega
  rcases hx with hx | hx | hx | hx | hx | hx | hx | hx
  · have e9 : i_2 = (0 : Int32) := Int32.toInt_inj.mp hx
    replace hf := hf.1 e9
    refine v_tableAt (v := (0 : Int32)) (off := 43) 56 dX1_ofRoom_13 e9 (by decide) (by decide) (by decide) (by decide) ?_
    refine v_qload_n (r := r11) (i := 3) dX1_ofRoom_56 rfl rfl ?_
    obtain ⟨a13, rfl⟩ := gI_s hf
    replace hf := gI_e hf
    obtain ⟨w14, fs15, i12, hh16, hk17, hf⟩ := hf
    refine v_getfN (T := TX3) (ci := 3) 1 dX1_ofRoom_57 q416 rfl in_X3 (Nat.le_of_ble_eq_true rfl) (Or.inl rfl) hh16 hk17 ?_
    refine v_goto 122 dX1_ofRoom_60 (by decide) ?_
    exact v_iret dX1_ofRoom_122 rfl ⟨_, rfl, hf⟩
  · have e9 : i_2 = (1 : Int32) := Int32.toInt_inj.mp hx
    replace hf := hf.2.1 e9
    refine v_tableAt (v := (1 : Int32)) (off := 50) 63 dX1_ofRoom_13 e9 (by decide) (by decide) (by decide) (by decide) ?_
    refine v_qload_n (r := r11) (i := 3) dX1_ofRoom_63 rfl rfl ?_
    obtain ⟨a19, rfl⟩ := gR_s hf
    replace hf := gR_e hf
    obtain ⟨w20, fs21, r18, hh22, hk23, hf⟩ := hf
    refine v_getfN (T := TX3) (ci := 3) 0 dX1_ofRoom_64 q414 rfl in_X3 (Nat.le_of_ble_eq_true rfl) (Or.inl rfl) hh22 hk23 ?_
    refine v_iload_n (i := 2) dX1_ofRoom_67 rfl rfl ?_
    refine v_iconst (v := 1) dX1_ofRoom_68 (by decide) ?_
    refine v_isub dX1_ofRoom_69 ?_
    obtain ⟨a24, rfl⟩ := aI_s hf
    replace hf := aI_e hf
    obtain ⟨w25, N26, f27, hh28, hi29, i30, ei30, hf⟩ := hf
    refine v_iald dX1_ofRoom_70 hh28 hi29 ?_
    rw [← ei30]
    refine v_goto 122 dX1_ofRoom_71 (by decide) ?_
    exact v_iret dX1_ofRoom_122 rfl ⟨_, rfl, hf⟩
  · have e9 : i_2 = (2 : Int32) := Int32.toInt_inj.mp hx
    replace hf := hf.2.2.1 e9
    refine v_tableAt (v := (2 : Int32)) (off := 50) 63 dX1_ofRoom_13 e9 (by decide) (by decide) (by decide) (by decide) ?_
    refine v_qload_n (r := r11) (i := 3) dX1_ofRoom_63 rfl rfl ?_
    obtain ⟨a32, rfl⟩ := gR_s hf
    replace hf := gR_e hf
    obtain ⟨w33, fs34, r31, hh35, hk36, hf⟩ := hf
    refine v_getfN (T := TX3) (ci := 3) 0 dX1_ofRoom_64 q414 rfl in_X3 (Nat.le_of_ble_eq_true rfl) (Or.inl rfl) hh35 hk36 ?_
    refine v_iload_n (i := 2) dX1_ofRoom_67 rfl rfl ?_
    refine v_iconst (v := 1) dX1_ofRoom_68 (by decide) ?_
    refine v_isub dX1_ofRoom_69 ?_
    obtain ⟨a37, rfl⟩ := aI_s hf
    replace hf := aI_e hf
    obtain ⟨w38, N39, f40, hh41, hi42, i43, ei43, hf⟩ := hf
    refine v_iald dX1_ofRoom_70 hh41 hi42 ?_
    rw [← ei43]
    refine v_goto 122 dX1_ofRoom_71 (by decide) ?_
    exact v_iret dX1_ofRoom_122 rfl ⟨_, rfl, hf⟩
  · have e9 : i_2 = (3 : Int32) := Int32.toInt_inj.mp hx
    replace hf := hf.2.2.2.1 e9
    refine v_tableAt (v := (3 : Int32)) (off := 50) 63 dX1_ofRoom_13 e9 (by decide) (by decide) (by decide) (by decide) ?_
    refine v_qload_n (r := r11) (i := 3) dX1_ofRoom_63 rfl rfl ?_
    obtain ⟨a45, rfl⟩ := gR_s hf
    replace hf := gR_e hf
    obtain ⟨w46, fs47, r44, hh48, hk49, hf⟩ := hf
    refine v_getfN (T := TX3) (ci := 3) 0 dX1_ofRoom_64 q414 rfl in_X3 (Nat.le_of_ble_eq_true rfl) (Or.inl rfl) hh48 hk49 ?_
    refine v_iload_n (i := 2) dX1_ofRoom_67 rfl rfl ?_
    refine v_iconst (v := 1) dX1_ofRoom_68 (by decide) ?_
    refine v_isub dX1_ofRoom_69 ?_
    obtain ⟨a50, rfl⟩ := aI_s hf
    replace hf := aI_e hf
    obtain ⟨w51, N52, f53, hh54, hi55, i56, ei56, hf⟩ := hf
    refine v_iald dX1_ofRoom_70 hh54 hi55 ?_
    rw [← ei56]
    refine v_goto 122 dX1_ofRoom_71 (by decide) ?_
    exact v_iret dX1_ofRoom_122 rfl ⟨_, rfl, hf⟩
  · have e9 : i_2 = (4 : Int32) := Int32.toInt_inj.mp hx
    replace hf := hf.2.2.2.2.1 e9
    refine v_tableAt (v := (4 : Int32)) (off := 61) 74 dX1_ofRoom_13 e9 (by decide) (by decide) (by decide) (by decide) ?_
    refine v_qload_n (r := (some a0)) (i := 0) dX1_ofRoom_74 rfl rfl ?_
    refine v_iload_n (i := 1) dX1_ofRoom_75 rfl rfl ?_
    replace hf := rv_e hf
    obtain ⟨w57, fs58, hh59, hf⟩ := hf
    obtain ⟨mc62, ms63, hkmc62, hnms63, hM⟩ := hf
    refine V.weak (k' := ((k - mc62) + 0) + mc62) (n' := ((n - ms63) + 0) + ms63) ?_ (by omega) (by omega)
    refine v_callV 1 dX1_ofRoom_76 hM rfl hh59 rfl (lw_V q740 q742 qs9 q89 q743) rfl (by decide +kernel) (by decide) rfl (cat_len (Nat.le_of_ble_eq_true rfl)) (kk_I fun i61 h60 hg => ?_) (fun _ _ _ hx => hx.elim)
    have hf := hg
    clear hg
    refine v_goto 122 dX1_ofRoom_79 (by decide) ?_
    exact v_iret dX1_ofRoom_122 rfl ⟨_, rfl, hf⟩
  · have e9 : i_2 = (5 : Int32) := Int32.toInt_inj.mp hx
    replace hf := hf.2.2.2.2.2.1 e9
    refine v_tableAt (v := (5 : Int32)) (off := 69) 82 dX1_ofRoom_13 e9 (by decide) (by decide) (by decide) (by decide) ?_
    refine v_qload_n (r := (some a0)) (i := 0) dX1_ofRoom_82 rfl rfl ?_
    replace hf := rv_e hf
    obtain ⟨w66, fs67, hh68, hf⟩ := hf
    obtain ⟨mc71, ms72, hkmc71, hnms72, hM⟩ := hf
    refine V.weak (k' := ((k - mc71) + 0) + mc71) (n' := ((n - ms72) + 0) + ms72) ?_ (by omega) (by omega)
    refine v_callV 0 dX1_ofRoom_83 hM rfl hh68 rfl (lw_V q745 q746 q747 q89 q748) rfl (by decide +kernel) (by decide) rfl (cat_len (Nat.le_of_ble_eq_true rfl)) (kk_R fun r70 h69 hg => ?_) (fun _ _ _ hx => hx.elim)
    have hf := hg
    clear hg
    refine v_iload_n (i := 1) dX1_ofRoom_86 rfl rfl ?_
    obtain ⟨a75, rfl⟩ := rv_s hf
    replace hf := rv_e hf
    obtain ⟨w76, fs77, hh78, hf⟩ := hf
    refine V.addK0 ?_
    refine V.addN0 ?_
    refine v_callV (mc := 0) (ms := 0) 1 dX1_ofRoom_87 (m_J16_get hG hf) rfl hh78 rfl (lw_V q1599 q1600 q1601 q111 q1602) rfl (by decide +kernel) (by decide) rfl (cat_len (Nat.le_of_ble_eq_true rfl)) (kk_I fun i80 h79 hg => ?_) (fun _ _ _ hx => hx.elim)
    replace hf := hg
    clear hg
    refine v_if_eq 97 dX1_ofRoom_90 (by decide) (fun c81 => ?_) (fun c81 => ?_)
    · replace hf := hf.1 c81
      refine v_iconst (v := 0) dX1_ofRoom_97 (by decide) ?_
      refine v_goto 122 dX1_ofRoom_98 (by decide) ?_
      exact v_iret dX1_ofRoom_122 rfl ⟨_, rfl, hf⟩
    · replace hf := hf.2 c81
      refine v_iconst (v := 1) dX1_ofRoom_93 (by decide) ?_
      refine v_goto 122 dX1_ofRoom_94 (by decide) ?_
      exact v_iret dX1_ofRoom_122 rfl ⟨_, rfl, hf⟩
  · have e9 : i_2 = (6 : Int32) := Int32.toInt_inj.mp hx
    replace hf := hf.2.2.2.2.2.2.1 e9
    refine v_tableAt (v := (6 : Int32)) (off := 88) 101 dX1_ofRoom_13 e9 (by decide) (by decide) (by decide) (by decide) ?_
    refine v_qload_n (r := (some a0)) (i := 0) dX1_ofRoom_101 rfl rfl ?_
    refine v_qload_n (r := (some a0)) (i := 0) dX1_ofRoom_102 rfl rfl ?_
    replace hf := gI_e hf
    obtain ⟨w83, fs84, i82, hh85, hk86, hf⟩ := hf
    refine v_getf (T := TX1) (ci := 1) 3 dX1_ofRoom_103 q193 rfl in_X1 (Nat.le_of_ble_eq_true rfl) (Or.inl rfl) hh85 hk86 ?_
    refine v_iload_n (i := 1) dX1_ofRoom_106 rfl rfl ?_
    refine v_qload_n (r := (some a0)) (i := 0) dX1_ofRoom_107 rfl rfl ?_
    replace hf := gI_e hf
    obtain ⟨w88, fs89, i87, hh90, hk91, hf⟩ := hf
    refine v_getf (T := TX1) (ci := 1) 4 dX1_ofRoom_108 q195 rfl in_X1 (Nat.le_of_ble_eq_true rfl) (Or.inl rfl) hh90 hk91 ?_
    refine v_iconst (v := 2) dX1_ofRoom_111 (by decide) ?_
    refine v_irem dX1_ofRoom_112 (by decide) ?_
    replace hf := rv_e hf
    obtain ⟨w92, fs93, hh94, hf⟩ := hf
    obtain ⟨mc97, ms98, hkmc97, hnms98, hM⟩ := hf
    refine V.weak (k' := ((k - mc97) + 0) + mc97) (n' := ((n - ms98) + 0) + ms98) ?_ (by omega) (by omega)
    refine v_callV 3 dX1_ofRoom_113 hM rfl hh94 rfl (lw_V q1603 q1604 q1605 q89 q1606) rfl (by decide +kernel) (by decide) rfl (cat_len (Nat.le_of_ble_eq_true rfl)) (kk_I fun i96 h95 hg => ?_) (fun _ _ _ hx => hx.elim)
    have hf := hg
    clear hg
    refine v_goto 122 dX1_ofRoom_116 (by decide) ?_
    exact v_iret dX1_ofRoom_122 rfl ⟨_, rfl, hf⟩
  · replace hf := hf.2.2.2.2.2.2.2 hx
    refine v_tableOut 119 dX1_ofRoom_13 hx (by decide) ?_
    refine v_sipush (v := -1012) dX1_ofRoom_119 (by decide) ?_
    exact v_iret dX1_ofRoom_122 rfl ⟨_, rfl, hf⟩
abbrev Y_X1_goes : Yt := (yX1_goes, some (.int), 6, 153, [])
def f_X1_goes (G : Gt) (h : Hp) (k n : Nat) (t_0 : Option Nat) (i_1 : Int32) (K : Int32 → Hp → Prop) (X : Nat → Nat → Hp → Prop) : Prop :=
gR h t_0 1 1 fun r1 =>
rv h r1 10 (f_J2_get G h r1 i_1 (fun r11 h10 =>
(oc h10 r11 5 ∧ rv h10 t_0 1 (f_X1_mustBeAt G h10 t_0 r11 (fun h15 =>
gI h15 r11 5 4 fun i16 =>
gI h15 r11 5 3 fun i22 =>
f_X0_refuse G h15 i16 (5 : Int32) i22 (fun h27 =>
rv h27 t_0 1 (f_X1_lastStep G h27 t_0 (fun i32 h31 =>
rv h31 r11 5 (f_X5_isFor G h31 r11 i32 (fun i37 h36 =>
((¬ (i37 = 0) → rv h36 t_0 1 (f_X1_lastStep G h36 t_0 (fun i43 h42 =>
f_X0_refuse G h42 (0 : Int32) (6 : Int32) i43 (fun h44 =>
gR h44 t_0 1 0 fun r45 =>
gI h44 t_0 1 3 fun i50 =>
rv h44 r45 10 (f_J2_get G h44 r45 i50 (fun r60 h59 =>
(oc h59 r60 3 ∧ rv h59 r60 3 (f_X3_steps G h59 r60 (fun i66 h65 =>
rv h65 t_0 1 (dI G Y_X1_burns cX1_burns 5 [va_rf t_0, .int i66] h65 k n (fun i71 h70 k74 n75 =>
gI h70 t_0 1 3 fun i76 =>
rv h70 r11 5 (f_X5_beyond G h70 r11 i76 (fun i85 h84 =>
pF h84 t_0 1 3 (.int i85) fun h88 =>
gR h88 t_0 1 1 fun r89 =>
rv h88 r11 5 (f_X5_goneThrough G h88 r11 (fun r98 h97 =>
rv h97 r89 10 (f_J2_set G h97 r89 i_1 r98 (fun r104 h103 =>
(oc h103 r104 5 ∧ gI h103 t_0 1 7 fun i105 =>
((0 ≤ i71 → pF h103 t_0 1 7 (.int (i105 + (1 : Int32))) fun h113 =>
gI h113 t_0 1 3 fun i114 =>
K i114 h113) ∧
(¬ (0 ≤ i71) → pF h103 t_0 1 7 (.int (i105 + (0 : Int32))) fun h121 =>
gI h121 t_0 1 3 fun i122 =>
K i122 h121)))))))))) xN))))))) X))) ∧
(i37 = 0 → rv h36 t_0 1 (f_X1_lastStep G h36 t_0 (fun i131 h130 =>
f_X0_refuse G h130 (1 : Int32) (6 : Int32) i131 (fun h132 =>
gR h132 t_0 1 0 fun r133 =>
gI h132 t_0 1 3 fun i138 =>
rv h132 r133 10 (f_J2_get G h132 r133 i138 (fun r148 h147 =>
(oc h147 r148 3 ∧ rv h147 r148 3 (f_X3_steps G h147 r148 (fun i154 h153 =>
rv h153 t_0 1 (dI G Y_X1_burns cX1_burns 5 [va_rf t_0, .int i154] h153 k n (fun i159 h158 k162 n163 =>
gI h158 t_0 1 3 fun i164 =>
rv h158 r11 5 (f_X5_beyond G h158 r11 i164 (fun i173 h172 =>
pF h172 t_0 1 3 (.int i173) fun h176 =>
gR h176 t_0 1 1 fun r177 =>
rv h176 r11 5 (f_X5_goneThrough G h176 r11 (fun r186 h185 =>
rv h185 r177 10 (f_J2_set G h185 r177 i_1 r186 (fun r192 h191 =>
(oc h191 r192 5 ∧ gI h191 t_0 1 7 fun i193 =>
((0 ≤ i159 → pF h191 t_0 1 7 (.int (i193 + (1 : Int32))) fun h201 =>
gI h201 t_0 1 3 fun i202 =>
K i202 h201) ∧
(¬ (0 ≤ i159) → pF h191 t_0 1 7 (.int (i193 + (0 : Int32))) fun h209 =>
gI h209 t_0 1 3 fun i210 =>
K i210 h209)))))))))) xN))))))) X))))))))) X) X))))
theorem m_X1_goes {G : Gt} {h : Hp} {mc ms : Nat} {a0 : Nat} {i_1 : Int32} {K : Int32 → Hp → Prop} {X : Nat → Nat → Hp → Prop} (hG : Base G) (hA : 4 ≤ mc) (hB : 30 ≤ ms) (hf : f_X1_goes G h (mc - 4) (ms - 30) (some a0) i_1 K X) : MM G Y_X1_goes cX1_goes 5 mc ms [.ref a0, .int i_1] h (kI K) X := by
  refine mm_of hG (by decide +kernel) rfl (ac_c rfl (ac_c rfl ac_nil)) (Nat.le_of_ble_eq_true rfl) (fun E _ _ => ?_)
  obtain ⟨k, hk9⟩ : ∃ z, z = mc - 4 := ⟨_, rfl⟩
  obtain ⟨n, hn9⟩ : ∃ z, z = ms - 30 := ⟨_, rfl⟩
  rw [← hk9, ← hn9] at hf
  refine V.weak (k' := k + 4) (n' := n + 30) ?_ (by omega) (by omega)
  show V G E Y_X1_goes cX1_goes 5 (QM G E (kI K) X) h (k + 4) (n + 30) 0 [(0, .ref a0), (1, .int i_1)] []
  unfold f_X1_goes at hf
  refine v_qload_n (r := (some a0)) (i := 0) dX1_goes_0 rfl rfl ?_
  replace hf := gR_e hf
  obtain ⟨w2, fs3, r1, hh4, hk5, hf⟩ := hf
  refine v_getf (T := TX1) (ci := 1) 1 dX1_goes_1 q190 rfl in_X1 (Nat.le_of_ble_eq_true rfl) (Or.inl rfl) hh4 hk5 ?_
  refine v_iload_n (i := 1) dX1_goes_4 rfl rfl ?_
  obtain ⟨a6, rfl⟩ := rv_s hf
  replace hf := rv_e hf
  obtain ⟨w7, fs8, hh9, hf⟩ := hf
  refine V.addK0 ?_
  refine V.addN0 ?_
  refine v_callV (mc := 0) (ms := 0) 1 dX1_goes_5 (m_J2_get hG hf) rfl hh9 rfl (lw_V q660 q661 q662 q92 q663) rfl (by decide +kernel) (by decide) rfl (cat_len (Nat.le_of_ble_eq_true rfl)) (kk_R fun r11 h10 hg => ?_) (fun _ _ _ hx => hx.elim)
  replace hf := hg
  clear hg
  obtain ⟨hoc, hf⟩ := hf
  refine v_castQS (r := r11) dX1_goes_8 q499 hoc rfl ?_
  refine v_qstore_n (i := 2) (r := r11) (lv' := [(0, va_rf (some a0)), (1, .int i_1), (2, va_rf r11)]) dX1_goes_11 rfl (Nat.le_of_ble_eq_true rfl) rfl rfl ?_
  refine v_qload_n (r := (some a0)) (i := 0) dX1_goes_12 rfl rfl ?_
  refine v_qload_n (r := r11) (i := 2) dX1_goes_13 rfl rfl ?_
  replace hf := rv_e hf
  obtain ⟨w12, fs13, hh14, hf⟩ := hf
  refine v_callV (mc := 1) (ms := 8) 1 dX1_goes_14 (m_X1_mustBeAt hG hf) rfl hh14 rfl (lw_V q1684 q1686 qs20 q89 q1687) rfl (by decide +kernel) (by decide) rfl (cat_len (Nat.le_of_ble_eq_true rfl)) (kk_V fun h15 hg => ?_) (fun _ _ _ hx => vx_leave (by decide) hx)
  replace hf := hg
  clear hg
  refine v_qload_n (r := r11) (i := 2) dX1_goes_17 rfl rfl ?_
  obtain ⟨a17, rfl⟩ := gI_s hf
  replace hf := gI_e hf
  obtain ⟨w18, fs19, i16, hh20, hk21, hf⟩ := hf
  refine v_getfN (T := TX5) (ci := 5) 4 dX1_goes_18 q700 rfl in_X5 (Nat.le_of_ble_eq_true rfl) (Or.inl rfl) hh20 hk21 ?_
  refine v_iconst (v := 5) dX1_goes_21 (by decide) ?_
  refine v_qload_n (r := (some a17)) (i := 2) dX1_goes_22 rfl rfl ?_
  replace hf := gI_e hf
  obtain ⟨w23, fs24, i22, hh25, hk26, hf⟩ := hf
  refine v_getfN (T := TX5) (ci := 5) 3 dX1_goes_23 q698 rfl in_X5 (Nat.le_of_ble_eq_true rfl) (Or.inl rfl) hh25 hk26 ?_
  refine v_callSN (mc := 1) (ms := 8) 3 dX1_goes_26 (m_X0_refuse hG hf) rfl (lw_meth q514) q88 q512 q513 rfl (by decide +kernel) (by decide) rfl (cat_len (Nat.le_of_ble_eq_true rfl)) (kk_V fun h27 hg => ?_) (fun _ _ _ hx => vx_leave (by decide) hx)
  replace hf := hg
  clear hg
  refine v_qload_n (r := (some a17)) (i := 2) dX1_goes_29 rfl rfl ?_
  refine v_qload_n (r := (some a0)) (i := 0) dX1_goes_30 rfl rfl ?_
  replace hf := rv_e hf
  obtain ⟨w28, fs29, hh30, hf⟩ := hf
  refine V.addK0 ?_
  refine V.addN0 ?_
  refine v_callV (mc := 0) (ms := 0) 0 dX1_goes_31 (m_X1_lastStep hG hf) rfl hh30 rfl (lw_V q1688 q1690 qs21 q89 q1691) rfl (by decide +kernel) (by decide) rfl (cat_len (Nat.le_of_ble_eq_true rfl)) (kk_I fun i32 h31 hg => ?_) (fun _ _ _ hx => hx.elim)
  replace hf := hg
  clear hg
  replace hf := rv_e hf
  obtain ⟨w33, fs34, hh35, hf⟩ := hf
  refine V.addK0 ?_
  refine V.addN0 ?_
  refine v_callV (mc := 0) (ms := 0) 1 dX1_goes_34 (m_X5_isFor hG hf) rfl hh35 rfl (lw_V q1583 q1584 q1585 q110 q1586) rfl (by decide +kernel) (by decide) rfl (cat_len (Nat.le_of_ble_eq_true rfl)) (kk_I fun i37 h36 hg => ?_) (fun _ _ _ hx => hx.elim)
  replace hf := hg
  clear hg
  refine v_if_ne 44 dX1_goes_37 (by decide) (fun c38 => ?_) (fun c38 => ?_)
  · replace hf := hf.1 c38
    refine v_iconst (v := 0) dX1_goes_44 (by decide) ?_
    refine v_bipush (v := 6) dX1_goes_45 (by decide) ?_
    refine v_qload_n (r := (some a0)) (i := 0) dX1_goes_47 rfl rfl ?_
    replace hf := rv_e hf
    obtain ⟨w39, fs40, hh41, hf⟩ := hf
    refine V.addK0 ?_
    refine V.addN0 ?_
    refine v_callV (mc := 0) (ms := 0) 0 dX1_goes_48 (m_X1_lastStep hG hf) rfl hh41 rfl (lw_V q1688 q1690 qs21 q89 q1691) rfl (by decide +kernel) (by decide) rfl (cat_len (Nat.le_of_ble_eq_true rfl)) (kk_I fun i43 h42 hg => ?_) (fun _ _ _ hx => hx.elim)
    replace hf := hg
    clear hg
    refine v_callSN (mc := 1) (ms := 8) 3 dX1_goes_51 (m_X0_refuse hG hf) rfl (lw_meth q514) q88 q512 q513 rfl (by decide +kernel) (by decide) rfl (cat_len (Nat.le_of_ble_eq_true rfl)) (kk_V fun h44 hg => ?_) (fun _ _ _ hx => vx_leave (by decide) hx)
    replace hf := hg
    clear hg
    refine v_qload_n (r := (some a0)) (i := 0) dX1_goes_54 rfl rfl ?_
    refine v_qload_n (r := (some a0)) (i := 0) dX1_goes_55 rfl rfl ?_
    replace hf := gR_e hf
    obtain ⟨w46, fs47, r45, hh48, hk49, hf⟩ := hf
    refine v_getf (T := TX1) (ci := 1) 0 dX1_goes_56 q188 rfl in_X1 (Nat.le_of_ble_eq_true rfl) (Or.inl rfl) hh48 hk49 ?_
    refine v_qload_n (r := (some a0)) (i := 0) dX1_goes_59 rfl rfl ?_
    replace hf := gI_e hf
    obtain ⟨w51, fs52, i50, hh53, hk54, hf⟩ := hf
    refine v_getf (T := TX1) (ci := 1) 3 dX1_goes_60 q193 rfl in_X1 (Nat.le_of_ble_eq_true rfl) (Or.inl rfl) hh53 hk54 ?_
    obtain ⟨a55, rfl⟩ := rv_s hf
    replace hf := rv_e hf
    obtain ⟨w56, fs57, hh58, hf⟩ := hf
    refine V.addK0 ?_
    refine V.addN0 ?_
    refine v_callV (mc := 0) (ms := 0) 1 dX1_goes_63 (m_J2_get hG hf) rfl hh58 rfl (lw_V q660 q661 q662 q92 q663) rfl (by decide +kernel) (by decide) rfl (cat_len (Nat.le_of_ble_eq_true rfl)) (kk_R fun r60 h59 hg => ?_) (fun _ _ _ hx => hx.elim)
    replace hf := hg
    clear hg
    obtain ⟨hoc, hf⟩ := hf
    refine v_castQS (r := r60) dX1_goes_66 q402 hoc rfl ?_
    obtain ⟨a61, rfl⟩ := rv_s hf
    replace hf := rv_e hf
    obtain ⟨w62, fs63, hh64, hf⟩ := hf
    refine V.addK0 ?_
    refine V.addN0 ?_
    refine v_callV (mc := 0) (ms := 0) 0 dX1_goes_69 (m_X3_steps hG hf) rfl hh64 rfl (lw_V q1575 q1576 q1577 q100 q1578) rfl (by decide +kernel) (by decide) rfl (cat_len (Nat.le_of_ble_eq_true rfl)) (kk_I fun i66 h65 hg => ?_) (fun _ _ _ hx => hx.elim)
    replace hf := hg
    clear hg
    replace hf := rv_e hf
    obtain ⟨w67, fs68, hh69, hf⟩ := hf
    obtain ⟨mc72, ms73, hkmc72, hnms73, hM⟩ := hf
    refine V.weak (k' := ((k - mc72) + 1) + mc72) (n' := ((n - ms73) + 6) + ms73) ?_ (by omega) (by omega)
    refine v_callV 1 dX1_goes_72 hM rfl hh69 rfl (lw_V q1692 q1694 qs22 q89 q1695) rfl (by decide +kernel) (by decide) rfl (cat_len (Nat.le_of_ble_eq_true rfl)) (kk_I fun i71 h70 hg => ?_) (fun _ _ _ hx => hx.elim)
    have hf := hg
    clear hg
    refine v_istore_n (i := 3) (lv' := [(0, va_rf (some a0)), (1, .int i_1), (2, va_rf (some a17)), (3, .int i71)]) dX1_goes_75 rfl (Nat.le_of_ble_eq_true rfl) rfl rfl ?_
    refine v_qload_n (r := (some a0)) (i := 0) dX1_goes_76 rfl rfl ?_
    refine v_qload_n (r := (some a17)) (i := 2) dX1_goes_77 rfl rfl ?_
    refine v_qload_n (r := (some a0)) (i := 0) dX1_goes_78 rfl rfl ?_
    replace hf := gI_e hf
    obtain ⟨w77, fs78, i76, hh79, hk80, hf⟩ := hf
    refine v_getf (T := TX1) (ci := 1) 3 dX1_goes_79 q193 rfl in_X1 (Nat.le_of_ble_eq_true rfl) (Or.inl rfl) hh79 hk80 ?_
    replace hf := rv_e hf
    obtain ⟨w81, fs82, hh83, hf⟩ := hf
    refine V.addK0 ?_
    refine V.addN0 ?_
    refine v_callV (mc := 0) (ms := 0) 1 dX1_goes_82 (m_X5_beyond hG hf) rfl hh83 rfl (lw_V q1697 q1596 q1597 q110 q1598) rfl (by decide +kernel) (by decide) rfl (cat_len (Nat.le_of_ble_eq_true rfl)) (kk_I fun i85 h84 hg => ?_) (fun _ _ _ hx => hx.elim)
    replace hf := hg
    clear hg
    replace hf := pF_e hf
    obtain ⟨fs86, hh87, hf⟩ := hf
    refine v_putf (v := .int i85) (T := TX1) (ci := 1) (ty := .int) 3 dX1_goes_85 q193 rfl in_X1 tyX1 tyX1_ok nmX1 (Nat.le_of_ble_eq_true rfl) (Or.inl rfl) rfl (by decide +kernel) rfl rfl hh87 ?_
    obtain ⟨h88, eh88⟩ : ∃ z, z = hs h84 a0 (true, .inr (1, fs86.set 3 (.int i85))) := ⟨_, rfl⟩
    try rw [← eh88] at hf
    rw [← eh88]
    refine v_qload_n (r := (some a0)) (i := 0) dX1_goes_88 rfl rfl ?_
    replace hf := gR_e hf
    obtain ⟨w90, fs91, r89, hh92, hk93, hf⟩ := hf
    refine v_getf (T := TX1) (ci := 1) 1 dX1_goes_89 q190 rfl in_X1 (Nat.le_of_ble_eq_true rfl) (Or.inl rfl) hh92 hk93 ?_
    refine v_iload_n (i := 1) dX1_goes_92 rfl rfl ?_
    refine v_qload_n (r := (some a17)) (i := 2) dX1_goes_93 rfl rfl ?_
    replace hf := rv_e hf
    obtain ⟨w94, fs95, hh96, hf⟩ := hf
    refine v_callV (mc := 1) (ms := 6) 0 dX1_goes_94 (m_X5_goneThrough hG hf) rfl hh96 rfl (lw_V q1698 q1699 q1700 q110 q1701) rfl (by decide +kernel) (by decide) rfl (cat_len (Nat.le_of_ble_eq_true rfl)) (kk_R fun r98 h97 hg => ?_) (fun _ _ _ hx => hx.elim)
    replace hf := hg
    clear hg
    obtain ⟨a99, rfl⟩ := rv_s hf
    replace hf := rv_e hf
    obtain ⟨w100, fs101, hh102, hf⟩ := hf
    refine V.addK0 ?_
    refine V.addN0 ?_
    refine v_callV (mc := 0) (ms := 0) 2 dX1_goes_97 (m_J2_set hG hf) rfl hh102 rfl (lw_V q1703 q1704 q1705 q92 q1706) rfl (by decide +kernel) (by decide) rfl (cat_len (Nat.le_of_ble_eq_true rfl)) (kk_R fun r104 h103 hg => ?_) (fun _ _ _ hx => hx.elim)
    replace hf := hg
    clear hg
    obtain ⟨hoc, hf⟩ := hf
    refine v_castQS (r := r104) dX1_goes_100 q499 hoc rfl ?_
    refine v_qstore (i := 4) (r := r104) (lv' := [(0, va_rf (some a0)), (1, .int i_1), (2, va_rf (some a17)), (3, .int i71), (4, va_rf r104)]) dX1_goes_103 (Nat.le_of_ble_eq_true rfl) rfl rfl ?_
    refine v_qload_n (r := (some a0)) (i := 0) dX1_goes_105 rfl rfl ?_
    refine v_dup dX1_goes_106 (rf_cat _) ?_
    replace hf := gI_e hf
    obtain ⟨w106, fs107, i105, hh108, hk109, hf⟩ := hf
    refine v_getf (T := TX1) (ci := 1) 7 dX1_goes_107 q200 rfl in_X1 (Nat.le_of_ble_eq_true rfl) (Or.inl rfl) hh108 hk109 ?_
    refine v_iload_n (i := 3) dX1_goes_110 rfl rfl ?_
    refine v_if_ge 118 dX1_goes_111 (by decide) (fun c110 => ?_) (fun c110 => ?_)
    · replace hf := hf.1 c110
      refine v_iconst (v := 1) dX1_goes_118 (by decide) ?_
      refine v_iadd dX1_goes_119 ?_
      replace hf := pF_e hf
      obtain ⟨fs111, hh112, hf⟩ := hf
      refine v_putf (v := .int (i105 + (1 : Int32))) (T := TX1) (ci := 1) (ty := .int) 7 dX1_goes_120 q200 rfl in_X1 tyX1 tyX1_ok nmX1 (Nat.le_of_ble_eq_true rfl) (Or.inl rfl) rfl (by decide +kernel) rfl rfl hh112 ?_
      obtain ⟨h113, eh113⟩ : ∃ z, z = hs h103 a0 (true, .inr (1, fs111.set 7 (.int (i105 + (1 : Int32))))) := ⟨_, rfl⟩
      try rw [← eh113] at hf
      rw [← eh113]
      refine v_qload_n (r := (some a0)) (i := 0) dX1_goes_123 rfl rfl ?_
      replace hf := gI_e hf
      obtain ⟨w115, fs116, i114, hh117, hk118, hf⟩ := hf
      refine v_getf (T := TX1) (ci := 1) 3 dX1_goes_124 q193 rfl in_X1 (Nat.le_of_ble_eq_true rfl) (Or.inl rfl) hh117 hk118 ?_
      exact v_iret dX1_goes_127 rfl ⟨_, rfl, hf⟩
    · replace hf := hf.2 c110
      refine v_iconst (v := 0) dX1_goes_114 (by decide) ?_
      refine v_goto 119 dX1_goes_115 (by decide) ?_
      refine v_iadd dX1_goes_119 ?_
      replace hf := pF_e hf
      obtain ⟨fs119, hh120, hf⟩ := hf
      refine v_putf (v := .int (i105 + (0 : Int32))) (T := TX1) (ci := 1) (ty := .int) 7 dX1_goes_120 q200 rfl in_X1 tyX1 tyX1_ok nmX1 (Nat.le_of_ble_eq_true rfl) (Or.inl rfl) rfl (by decide +kernel) rfl rfl hh120 ?_
      obtain ⟨h121, eh121⟩ : ∃ z, z = hs h103 a0 (true, .inr (1, fs119.set 7 (.int (i105 + (0 : Int32))))) := ⟨_, rfl⟩
      try rw [← eh121] at hf
      rw [← eh121]
      refine v_qload_n (r := (some a0)) (i := 0) dX1_goes_123 rfl rfl ?_
      replace hf := gI_e hf
      obtain ⟨w123, fs124, i122, hh125, hk126, hf⟩ := hf
      refine v_getf (T := TX1) (ci := 1) 3 dX1_goes_124 q193 rfl in_X1 (Nat.le_of_ble_eq_true rfl) (Or.inl rfl) hh125 hk126 ?_
      exact v_iret dX1_goes_127 rfl ⟨_, rfl, hf⟩
  · replace hf := hf.2 c38
    refine v_iconst (v := 1) dX1_goes_40 (by decide) ?_
    refine v_goto 45 dX1_goes_41 (by decide) ?_
    refine v_bipush (v := 6) dX1_goes_45 (by decide) ?_
    refine v_qload_n (r := (some a0)) (i := 0) dX1_goes_47 rfl rfl ?_
    replace hf := rv_e hf
    obtain ⟨w127, fs128, hh129, hf⟩ := hf
    refine V.addK0 ?_
    refine V.addN0 ?_
    refine v_callV (mc := 0) (ms := 0) 0 dX1_goes_48 (m_X1_lastStep hG hf) rfl hh129 rfl (lw_V q1688 q1690 qs21 q89 q1691) rfl (by decide +kernel) (by decide) rfl (cat_len (Nat.le_of_ble_eq_true rfl)) (kk_I fun i131 h130 hg => ?_) (fun _ _ _ hx => hx.elim)
    replace hf := hg
    clear hg
    refine v_callSN (mc := 1) (ms := 8) 3 dX1_goes_51 (m_X0_refuse hG hf) rfl (lw_meth q514) q88 q512 q513 rfl (by decide +kernel) (by decide) rfl (cat_len (Nat.le_of_ble_eq_true rfl)) (kk_V fun h132 hg => ?_) (fun _ _ _ hx => vx_leave (by decide) hx)
    replace hf := hg
    clear hg
    refine v_qload_n (r := (some a0)) (i := 0) dX1_goes_54 rfl rfl ?_
    refine v_qload_n (r := (some a0)) (i := 0) dX1_goes_55 rfl rfl ?_
    replace hf := gR_e hf
    obtain ⟨w134, fs135, r133, hh136, hk137, hf⟩ := hf
    refine v_getf (T := TX1) (ci := 1) 0 dX1_goes_56 q188 rfl in_X1 (Nat.le_of_ble_eq_true rfl) (Or.inl rfl) hh136 hk137 ?_
    refine v_qload_n (r := (some a0)) (i := 0) dX1_goes_59 rfl rfl ?_
    replace hf := gI_e hf
    obtain ⟨w139, fs140, i138, hh141, hk142, hf⟩ := hf
    refine v_getf (T := TX1) (ci := 1) 3 dX1_goes_60 q193 rfl in_X1 (Nat.le_of_ble_eq_true rfl) (Or.inl rfl) hh141 hk142 ?_
    obtain ⟨a143, rfl⟩ := rv_s hf
    replace hf := rv_e hf
    obtain ⟨w144, fs145, hh146, hf⟩ := hf
    refine V.addK0 ?_
    refine V.addN0 ?_
    refine v_callV (mc := 0) (ms := 0) 1 dX1_goes_63 (m_J2_get hG hf) rfl hh146 rfl (lw_V q660 q661 q662 q92 q663) rfl (by decide +kernel) (by decide) rfl (cat_len (Nat.le_of_ble_eq_true rfl)) (kk_R fun r148 h147 hg => ?_) (fun _ _ _ hx => hx.elim)
    replace hf := hg
    clear hg
    obtain ⟨hoc, hf⟩ := hf
    refine v_castQS (r := r148) dX1_goes_66 q402 hoc rfl ?_
    obtain ⟨a149, rfl⟩ := rv_s hf
    replace hf := rv_e hf
    obtain ⟨w150, fs151, hh152, hf⟩ := hf
    refine V.addK0 ?_
    refine V.addN0 ?_
    refine v_callV (mc := 0) (ms := 0) 0 dX1_goes_69 (m_X3_steps hG hf) rfl hh152 rfl (lw_V q1575 q1576 q1577 q100 q1578) rfl (by decide +kernel) (by decide) rfl (cat_len (Nat.le_of_ble_eq_true rfl)) (kk_I fun i154 h153 hg => ?_) (fun _ _ _ hx => hx.elim)
    replace hf := hg
    clear hg
    replace hf := rv_e hf
    obtain ⟨w155, fs156, hh157, hf⟩ := hf
    obtain ⟨mc160, ms161, hkmc160, hnms161, hM⟩ := hf
    refine V.weak (k' := ((k - mc160) + 1) + mc160) (n' := ((n - ms161) + 6) + ms161) ?_ (by omega) (by omega)
    refine v_callV 1 dX1_goes_72 hM rfl hh157 rfl (lw_V q1692 q1694 qs22 q89 q1695) rfl (by decide +kernel) (by decide) rfl (cat_len (Nat.le_of_ble_eq_true rfl)) (kk_I fun i159 h158 hg => ?_) (fun _ _ _ hx => hx.elim)
    have hf := hg
    clear hg
    refine v_istore_n (i := 3) (lv' := [(0, va_rf (some a0)), (1, .int i_1), (2, va_rf (some a17)), (3, .int i159)]) dX1_goes_75 rfl (Nat.le_of_ble_eq_true rfl) rfl rfl ?_
    refine v_qload_n (r := (some a0)) (i := 0) dX1_goes_76 rfl rfl ?_
    refine v_qload_n (r := (some a17)) (i := 2) dX1_goes_77 rfl rfl ?_
    refine v_qload_n (r := (some a0)) (i := 0) dX1_goes_78 rfl rfl ?_
    replace hf := gI_e hf
    obtain ⟨w165, fs166, i164, hh167, hk168, hf⟩ := hf
    refine v_getf (T := TX1) (ci := 1) 3 dX1_goes_79 q193 rfl in_X1 (Nat.le_of_ble_eq_true rfl) (Or.inl rfl) hh167 hk168 ?_
    replace hf := rv_e hf
    obtain ⟨w169, fs170, hh171, hf⟩ := hf
    refine V.addK0 ?_
    refine V.addN0 ?_
    refine v_callV (mc := 0) (ms := 0) 1 dX1_goes_82 (m_X5_beyond hG hf) rfl hh171 rfl (lw_V q1697 q1596 q1597 q110 q1598) rfl (by decide +kernel) (by decide) rfl (cat_len (Nat.le_of_ble_eq_true rfl)) (kk_I fun i173 h172 hg => ?_) (fun _ _ _ hx => hx.elim)
    replace hf := hg
    clear hg
    replace hf := pF_e hf
    obtain ⟨fs174, hh175, hf⟩ := hf
    refine v_putf (v := .int i173) (T := TX1) (ci := 1) (ty := .int) 3 dX1_goes_85 q193 rfl in_X1 tyX1 tyX1_ok nmX1 (Nat.le_of_ble_eq_true rfl) (Or.inl rfl) rfl (by decide +kernel) rfl rfl hh175 ?_
    obtain ⟨h176, eh176⟩ : ∃ z, z = hs h172 a0 (true, .inr (1, fs174.set 3 (.int i173))) := ⟨_, rfl⟩
    try rw [← eh176] at hf
    rw [← eh176]
    refine v_qload_n (r := (some a0)) (i := 0) dX1_goes_88 rfl rfl ?_
    replace hf := gR_e hf
    obtain ⟨w178, fs179, r177, hh180, hk181, hf⟩ := hf
    refine v_getf (T := TX1) (ci := 1) 1 dX1_goes_89 q190 rfl in_X1 (Nat.le_of_ble_eq_true rfl) (Or.inl rfl) hh180 hk181 ?_
    refine v_iload_n (i := 1) dX1_goes_92 rfl rfl ?_
    refine v_qload_n (r := (some a17)) (i := 2) dX1_goes_93 rfl rfl ?_
    replace hf := rv_e hf
    obtain ⟨w182, fs183, hh184, hf⟩ := hf
    refine v_callV (mc := 1) (ms := 6) 0 dX1_goes_94 (m_X5_goneThrough hG hf) rfl hh184 rfl (lw_V q1698 q1699 q1700 q110 q1701) rfl (by decide +kernel) (by decide) rfl (cat_len (Nat.le_of_ble_eq_true rfl)) (kk_R fun r186 h185 hg => ?_) (fun _ _ _ hx => hx.elim)
    replace hf := hg
    clear hg
    obtain ⟨a187, rfl⟩ := rv_s hf
    replace hf := rv_e hf
    obtain ⟨w188, fs189, hh190, hf⟩ := hf
    refine V.addK0 ?_
    refine V.addN0 ?_
    refine v_callV (mc := 0) (ms := 0) 2 dX1_goes_97 (m_J2_set hG hf) rfl hh190 rfl (lw_V q1703 q1704 q1705 q92 q1706) rfl (by decide +kernel) (by decide) rfl (cat_len (Nat.le_of_ble_eq_true rfl)) (kk_R fun r192 h191 hg => ?_) (fun _ _ _ hx => hx.elim)
    replace hf := hg
    clear hg
    obtain ⟨hoc, hf⟩ := hf
    refine v_castQS (r := r192) dX1_goes_100 q499 hoc rfl ?_
    refine v_qstore (i := 4) (r := r192) (lv' := [(0, va_rf (some a0)), (1, .int i_1), (2, va_rf (some a17)), (3, .int i159), (4, va_rf r192)]) dX1_goes_103 (Nat.le_of_ble_eq_true rfl) rfl rfl ?_
    refine v_qload_n (r := (some a0)) (i := 0) dX1_goes_105 rfl rfl ?_
    refine v_dup dX1_goes_106 (rf_cat _) ?_
    replace hf := gI_e hf
    obtain ⟨w194, fs195, i193, hh196, hk197, hf⟩ := hf
    refine v_getf (T := TX1) (ci := 1) 7 dX1_goes_107 q200 rfl in_X1 (Nat.le_of_ble_eq_true rfl) (Or.inl rfl) hh196 hk197 ?_
    refine v_iload_n (i := 3) dX1_goes_110 rfl rfl ?_
    refine v_if_ge 118 dX1_goes_111 (by decide) (fun c198 => ?_) (fun c198 => ?_)
    · replace hf := hf.1 c198
      refine v_iconst (v := 1) dX1_goes_118 (by decide) ?_
      refine v_iadd dX1_goes_119 ?_
      replace hf := pF_e hf
      obtain ⟨fs199, hh200, hf⟩ := hf
      refine v_putf (v := .int (i193 + (1 : Int32))) (T := TX1) (ci := 1) (ty := .int) 7 dX1_goes_120 q200 rfl in_X1 tyX1 tyX1_ok nmX1 (Nat.le_of_ble_eq_true rfl) (Or.inl rfl) rfl (by decide +kernel) rfl rfl hh200 ?_
      obtain ⟨h201, eh201⟩ : ∃ z, z = hs h191 a0 (true, .inr (1, fs199.set 7 (.int (i193 + (1 : Int32))))) := ⟨_, rfl⟩
      try rw [← eh201] at hf
      rw [← eh201]
      refine v_qload_n (r := (some a0)) (i := 0) dX1_goes_123 rfl rfl ?_
      replace hf := gI_e hf
      obtain ⟨w203, fs204, i202, hh205, hk206, hf⟩ := hf
      refine v_getf (T := TX1) (ci := 1) 3 dX1_goes_124 q193 rfl in_X1 (Nat.le_of_ble_eq_true rfl) (Or.inl rfl) hh205 hk206 ?_
      exact v_iret dX1_goes_127 rfl ⟨_, rfl, hf⟩
    · replace hf := hf.2 c198
      refine v_iconst (v := 0) dX1_goes_114 (by decide) ?_
      refine v_goto 119 dX1_goes_115 (by decide) ?_
      refine v_iadd dX1_goes_119 ?_
      replace hf := pF_e hf
      obtain ⟨fs207, hh208, hf⟩ := hf
      refine v_putf (v := .int (i193 + (0 : Int32))) (T := TX1) (ci := 1) (ty := .int) 7 dX1_goes_120 q200 rfl in_X1 tyX1 tyX1_ok nmX1 (Nat.le_of_ble_eq_true rfl) (Or.inl rfl) rfl (by decide +kernel) rfl rfl hh208 ?_
      obtain ⟨h209, eh209⟩ : ∃ z, z = hs h191 a0 (true, .inr (1, fs207.set 7 (.int (i193 + (0 : Int32))))) := ⟨_, rfl⟩
      try rw [← eh209] at hf
      rw [← eh209]
      refine v_qload_n (r := (some a0)) (i := 0) dX1_goes_123 rfl rfl ?_
      replace hf := gI_e hf
      obtain ⟨w211, fs212, i210, hh213, hk214, hf⟩ := hf
      refine v_getf (T := TX1) (ci := 1) 3 dX1_goes_124 q193 rfl in_X1 (Nat.le_of_ble_eq_true rfl) (Or.inl rfl) hh213 hk214 ?_
      exact v_iret dX1_goes_127 rfl ⟨_, rfl, hf⟩
abbrev Y_X1_takes : Yt := (yX1_takes, some (.int), 6, 152, [])
def f_X1_takes (G : Gt) (h : Hp) (t_0 : Option Nat) (i_1 : Int32) (K : Int32 → Hp → Prop) (X : Nat → Nat → Hp → Prop) : Prop :=
rv h t_0 1 (f_X1_mustHaveRooms G h t_0 (fun h4 =>
gR h4 t_0 1 0 fun r5 =>
gI h4 t_0 1 3 fun i10 =>
rv h4 r5 10 (f_J2_get G h4 r5 i10 (fun r20 h19 =>
(oc h19 r20 3 ∧ gR h19 r20 3 0 fun r21 =>
aI h19 r21 0 i_1 fun i33 =>
((¬ (i33 = 0) → gI h19 t_0 1 3 fun i35 =>
f_X0_refuse G h19 (0 : Int32) (7 : Int32) i35 (fun h40 =>
gR h40 t_0 1 2 fun r41 =>
aI h40 r41 0 i_1 fun i52 =>
((¬ (i52 = (9 : Int32)) → f_X0_refuse G h40 (0 : Int32) (10 : Int32) (10 : Int32) (fun h54 =>
aI h54 r21 0 i_1 fun i60 =>
sI h54 r21 i_1 (i60 - (1 : Int32)) fun h65 =>
gR h65 t_0 1 2 fun r66 =>
aI h65 r66 0 i_1 fun i77 =>
sI h65 r66 i_1 (i77 + (1 : Int32)) fun h82 =>
gR h82 t_0 1 2 fun r83 =>
aI h82 r83 0 i_1 fun i94 =>
K i94 h82) X) ∧
(i52 = (9 : Int32) → f_X0_refuse G h40 (1 : Int32) (10 : Int32) (10 : Int32) (fun h95 =>
aI h95 r21 0 i_1 fun i101 =>
sI h95 r21 i_1 (i101 - (1 : Int32)) fun h106 =>
gR h106 t_0 1 2 fun r107 =>
aI h106 r107 0 i_1 fun i118 =>
sI h106 r107 i_1 (i118 + (1 : Int32)) fun h123 =>
gR h123 t_0 1 2 fun r124 =>
aI h123 r124 0 i_1 fun i135 =>
K i135 h123) X))) X) ∧
(i33 = 0 → gI h19 t_0 1 3 fun i136 =>
f_X0_refuse G h19 (1 : Int32) (7 : Int32) i136 (fun h141 =>
gR h141 t_0 1 2 fun r142 =>
aI h141 r142 0 i_1 fun i153 =>
((¬ (i153 = (9 : Int32)) → f_X0_refuse G h141 (0 : Int32) (10 : Int32) (10 : Int32) (fun h155 =>
aI h155 r21 0 i_1 fun i161 =>
sI h155 r21 i_1 (i161 - (1 : Int32)) fun h166 =>
gR h166 t_0 1 2 fun r167 =>
aI h166 r167 0 i_1 fun i178 =>
sI h166 r167 i_1 (i178 + (1 : Int32)) fun h183 =>
gR h183 t_0 1 2 fun r184 =>
aI h183 r184 0 i_1 fun i195 =>
K i195 h183) X) ∧
(i153 = (9 : Int32) → f_X0_refuse G h141 (1 : Int32) (10 : Int32) (10 : Int32) (fun h196 =>
aI h196 r21 0 i_1 fun i202 =>
sI h196 r21 i_1 (i202 - (1 : Int32)) fun h207 =>
gR h207 t_0 1 2 fun r208 =>
aI h207 r208 0 i_1 fun i219 =>
sI h207 r208 i_1 (i219 + (1 : Int32)) fun h224 =>
gR h224 t_0 1 2 fun r225 =>
aI h224 r225 0 i_1 fun i236 =>
K i236 h224) X))) X)))))) X)
theorem m_X1_takes {G : Gt} {h : Hp} {a0 : Nat} {i_1 : Int32} {K : Int32 → Hp → Prop} {X : Nat → Nat → Hp → Prop} (hG : Base G) (hf : f_X1_takes G h (some a0) i_1 K X) : MM G Y_X1_takes cX1_takes 3 3 24 [.ref a0, .int i_1] h (kI K) X := by
  refine mm_of hG (by decide +kernel) rfl (ac_c rfl (ac_c rfl ac_nil)) (Nat.le_of_ble_eq_true rfl) (fun E _ _ => ?_)
  show V G E Y_X1_takes cX1_takes 3 (QM G E (kI K) X) h 3 24 0 [(0, .ref a0), (1, .int i_1)] []
  unfold f_X1_takes at hf
  refine v_qload_n (r := (some a0)) (i := 0) dX1_takes_0 rfl rfl ?_
  replace hf := rv_e hf
  obtain ⟨w1, fs2, hh3, hf⟩ := hf
  refine v_callV (mc := 1) (ms := 8) 0 dX1_takes_1 (m_X1_mustHaveRooms hG hf) rfl hh3 rfl (lw_V q1715 q1717 qs23 q89 q1718) rfl (by decide +kernel) (by decide) rfl (cat_len (Nat.le_of_ble_eq_true rfl)) (kk_V fun h4 hg => ?_) (fun _ _ _ hx => vx_leave (by decide) hx)
  replace hf := hg
  clear hg
  refine v_qload_n (r := (some a0)) (i := 0) dX1_takes_4 rfl rfl ?_
  replace hf := gR_e hf
  obtain ⟨w6, fs7, r5, hh8, hk9, hf⟩ := hf
  refine v_getf (T := TX1) (ci := 1) 0 dX1_takes_5 q188 rfl in_X1 (Nat.le_of_ble_eq_true rfl) (Or.inl rfl) hh8 hk9 ?_
  refine v_qload_n (r := (some a0)) (i := 0) dX1_takes_8 rfl rfl ?_
  replace hf := gI_e hf
  obtain ⟨w11, fs12, i10, hh13, hk14, hf⟩ := hf
  refine v_getf (T := TX1) (ci := 1) 3 dX1_takes_9 q193 rfl in_X1 (Nat.le_of_ble_eq_true rfl) (Or.inl rfl) hh13 hk14 ?_
  obtain ⟨a15, rfl⟩ := rv_s hf
  replace hf := rv_e hf
  obtain ⟨w16, fs17, hh18, hf⟩ := hf
  refine V.addK0 ?_
  refine V.addN0 ?_
  refine v_callV (mc := 0) (ms := 0) 1 dX1_takes_12 (m_J2_get hG hf) rfl hh18 rfl (lw_V q660 q661 q662 q92 q663) rfl (by decide +kernel) (by decide) rfl (cat_len (Nat.le_of_ble_eq_true rfl)) (kk_R fun r20 h19 hg => ?_) (fun _ _ _ hx => hx.elim)
  replace hf := hg
  clear hg
  obtain ⟨hoc, hf⟩ := hf
  refine v_castQS (r := r20) dX1_takes_15 q402 hoc rfl ?_
  obtain ⟨a22, rfl⟩ := gR_s hf
  replace hf := gR_e hf
  obtain ⟨w23, fs24, r21, hh25, hk26, hf⟩ := hf
  refine v_getfN (T := TX3) (ci := 3) 0 dX1_takes_18 q414 rfl in_X3 (Nat.le_of_ble_eq_true rfl) (Or.inl rfl) hh25 hk26 ?_
  refine v_qstore_n (i := 2) (r := r21) (lv' := [(0, va_rf (some a0)), (1, .int i_1), (2, va_rf r21)]) dX1_takes_21 rfl (Nat.le_of_ble_eq_true rfl) rfl rfl ?_
  refine v_qload_n (r := r21) (i := 2) dX1_takes_22 rfl rfl ?_
  refine v_iload_n (i := 1) dX1_takes_23 rfl rfl ?_
  obtain ⟨a27, rfl⟩ := aI_s hf
  replace hf := aI_e hf
  obtain ⟨w28, N29, f30, hh31, hi32, i33, ei33, hf⟩ := hf
  refine v_iald dX1_takes_24 hh31 hi32 ?_
  rw [← ei33]
  refine v_if_ne 32 dX1_takes_25 (by decide) (fun c34 => ?_) (fun c34 => ?_)
  · replace hf := hf.1 c34
    refine v_iconst (v := 0) dX1_takes_32 (by decide) ?_
    refine v_bipush (v := 7) dX1_takes_33 (by decide) ?_
    refine v_qload_n (r := (some a0)) (i := 0) dX1_takes_35 rfl rfl ?_
    replace hf := gI_e hf
    obtain ⟨w36, fs37, i35, hh38, hk39, hf⟩ := hf
    refine v_getf (T := TX1) (ci := 1) 3 dX1_takes_36 q193 rfl in_X1 (Nat.le_of_ble_eq_true rfl) (Or.inl rfl) hh38 hk39 ?_
    refine v_callSN (mc := 1) (ms := 8) 3 dX1_takes_39 (m_X0_refuse hG hf) rfl (lw_meth q514) q88 q512 q513 rfl (by decide +kernel) (by decide) rfl (cat_len (Nat.le_of_ble_eq_true rfl)) (kk_V fun h40 hg => ?_) (fun _ _ _ hx => vx_leave (by decide) hx)
    replace hf := hg
    clear hg
    refine v_qload_n (r := (some a0)) (i := 0) dX1_takes_42 rfl rfl ?_
    replace hf := gR_e hf
    obtain ⟨w42, fs43, r41, hh44, hk45, hf⟩ := hf
    refine v_getf (T := TX1) (ci := 1) 2 dX1_takes_43 q192 rfl in_X1 (Nat.le_of_ble_eq_true rfl) (Or.inl rfl) hh44 hk45 ?_
    refine v_iload_n (i := 1) dX1_takes_46 rfl rfl ?_
    obtain ⟨a46, rfl⟩ := aI_s hf
    replace hf := aI_e hf
    obtain ⟨w47, N48, f49, hh50, hi51, i52, ei52, hf⟩ := hf
    refine v_iald dX1_takes_47 hh50 hi51 ?_
    rw [← ei52]
    refine v_bipush (v := 9) dX1_takes_48 (by decide) ?_
    refine v_icmp_ne 57 dX1_takes_50 (by decide) (fun c53 => ?_) (fun c53 => ?_)
    · replace hf := hf.1 c53
      refine v_iconst (v := 0) dX1_takes_57 (by decide) ?_
      refine v_bipush (v := 10) dX1_takes_58 (by decide) ?_
      refine v_bipush (v := 10) dX1_takes_60 (by decide) ?_
      refine v_callSN (mc := 1) (ms := 8) 3 dX1_takes_62 (m_X0_refuse hG hf) rfl (lw_meth q514) q88 q512 q513 rfl (by decide +kernel) (by decide) rfl (cat_len (Nat.le_of_ble_eq_true rfl)) (kk_V fun h54 hg => ?_) (fun _ _ _ hx => vx_leave (by decide) hx)
      replace hf := hg
      clear hg
      refine v_qload_n (r := (some a27)) (i := 2) dX1_takes_65 rfl rfl ?_
      refine v_iload_n (i := 1) dX1_takes_66 rfl rfl ?_
      refine v_dup2 dX1_takes_67 rfl (rf_cat _) ?_
      replace hf := aI_e hf
      obtain ⟨w55, N56, f57, hh58, hi59, i60, ei60, hf⟩ := hf
      refine v_iald dX1_takes_68 hh58 hi59 ?_
      rw [← ei60]
      refine v_iconst (v := 1) dX1_takes_69 (by decide) ?_
      refine v_isub dX1_takes_70 ?_
      replace hf := sI_e hf
      obtain ⟨N61, f62, hh63, hi64, hf⟩ := hf
      refine v_iast dX1_takes_71 hh63 hi64 ?_
      obtain ⟨h65, eh65⟩ : ∃ z, z = hs h54 a27 (true, .inl (0, N61, .inl (upd f62 (i_1).toNatClampNeg (i60 - (1 : Int32))))) := ⟨_, rfl⟩
      try rw [← eh65] at hf
      rw [← eh65]
      refine v_qload_n (r := (some a0)) (i := 0) dX1_takes_72 rfl rfl ?_
      replace hf := gR_e hf
      obtain ⟨w67, fs68, r66, hh69, hk70, hf⟩ := hf
      refine v_getf (T := TX1) (ci := 1) 2 dX1_takes_73 q192 rfl in_X1 (Nat.le_of_ble_eq_true rfl) (Or.inl rfl) hh69 hk70 ?_
      refine v_iload_n (i := 1) dX1_takes_76 rfl rfl ?_
      refine v_dup2 dX1_takes_77 rfl (rf_cat _) ?_
      obtain ⟨a71, rfl⟩ := aI_s hf
      replace hf := aI_e hf
      obtain ⟨w72, N73, f74, hh75, hi76, i77, ei77, hf⟩ := hf
      refine v_iald dX1_takes_78 hh75 hi76 ?_
      rw [← ei77]
      refine v_iconst (v := 1) dX1_takes_79 (by decide) ?_
      refine v_iadd dX1_takes_80 ?_
      replace hf := sI_e hf
      obtain ⟨N78, f79, hh80, hi81, hf⟩ := hf
      refine v_iast dX1_takes_81 hh80 hi81 ?_
      obtain ⟨h82, eh82⟩ : ∃ z, z = hs h65 a71 (true, .inl (0, N78, .inl (upd f79 (i_1).toNatClampNeg (i77 + (1 : Int32))))) := ⟨_, rfl⟩
      try rw [← eh82] at hf
      rw [← eh82]
      refine v_qload_n (r := (some a0)) (i := 0) dX1_takes_82 rfl rfl ?_
      replace hf := gR_e hf
      obtain ⟨w84, fs85, r83, hh86, hk87, hf⟩ := hf
      refine v_getf (T := TX1) (ci := 1) 2 dX1_takes_83 q192 rfl in_X1 (Nat.le_of_ble_eq_true rfl) (Or.inl rfl) hh86 hk87 ?_
      refine v_iload_n (i := 1) dX1_takes_86 rfl rfl ?_
      obtain ⟨a88, rfl⟩ := aI_s hf
      replace hf := aI_e hf
      obtain ⟨w89, N90, f91, hh92, hi93, i94, ei94, hf⟩ := hf
      refine v_iald dX1_takes_87 hh92 hi93 ?_
      rw [← ei94]
      exact v_iret dX1_takes_88 rfl ⟨_, rfl, hf⟩
    · replace hf := hf.2 c53
      refine v_iconst (v := 1) dX1_takes_53 (by decide) ?_
      refine v_goto 58 dX1_takes_54 (by decide) ?_
      refine v_bipush (v := 10) dX1_takes_58 (by decide) ?_
      refine v_bipush (v := 10) dX1_takes_60 (by decide) ?_
      refine v_callSN (mc := 1) (ms := 8) 3 dX1_takes_62 (m_X0_refuse hG hf) rfl (lw_meth q514) q88 q512 q513 rfl (by decide +kernel) (by decide) rfl (cat_len (Nat.le_of_ble_eq_true rfl)) (kk_V fun h95 hg => ?_) (fun _ _ _ hx => vx_leave (by decide) hx)
      replace hf := hg
      clear hg
      refine v_qload_n (r := (some a27)) (i := 2) dX1_takes_65 rfl rfl ?_
      refine v_iload_n (i := 1) dX1_takes_66 rfl rfl ?_
      refine v_dup2 dX1_takes_67 rfl (rf_cat _) ?_
      replace hf := aI_e hf
      obtain ⟨w96, N97, f98, hh99, hi100, i101, ei101, hf⟩ := hf
      refine v_iald dX1_takes_68 hh99 hi100 ?_
      rw [← ei101]
      refine v_iconst (v := 1) dX1_takes_69 (by decide) ?_
      refine v_isub dX1_takes_70 ?_
      replace hf := sI_e hf
      obtain ⟨N102, f103, hh104, hi105, hf⟩ := hf
      refine v_iast dX1_takes_71 hh104 hi105 ?_
      obtain ⟨h106, eh106⟩ : ∃ z, z = hs h95 a27 (true, .inl (0, N102, .inl (upd f103 (i_1).toNatClampNeg (i101 - (1 : Int32))))) := ⟨_, rfl⟩
      try rw [← eh106] at hf
      rw [← eh106]
      refine v_qload_n (r := (some a0)) (i := 0) dX1_takes_72 rfl rfl ?_
      replace hf := gR_e hf
      obtain ⟨w108, fs109, r107, hh110, hk111, hf⟩ := hf
      refine v_getf (T := TX1) (ci := 1) 2 dX1_takes_73 q192 rfl in_X1 (Nat.le_of_ble_eq_true rfl) (Or.inl rfl) hh110 hk111 ?_
      refine v_iload_n (i := 1) dX1_takes_76 rfl rfl ?_
      refine v_dup2 dX1_takes_77 rfl (rf_cat _) ?_
      obtain ⟨a112, rfl⟩ := aI_s hf
      replace hf := aI_e hf
      obtain ⟨w113, N114, f115, hh116, hi117, i118, ei118, hf⟩ := hf
      refine v_iald dX1_takes_78 hh116 hi117 ?_
      rw [← ei118]
      refine v_iconst (v := 1) dX1_takes_79 (by decide) ?_
      refine v_iadd dX1_takes_80 ?_
      replace hf := sI_e hf
      obtain ⟨N119, f120, hh121, hi122, hf⟩ := hf
      refine v_iast dX1_takes_81 hh121 hi122 ?_
      obtain ⟨h123, eh123⟩ : ∃ z, z = hs h106 a112 (true, .inl (0, N119, .inl (upd f120 (i_1).toNatClampNeg (i118 + (1 : Int32))))) := ⟨_, rfl⟩
      try rw [← eh123] at hf
      rw [← eh123]
      refine v_qload_n (r := (some a0)) (i := 0) dX1_takes_82 rfl rfl ?_
      replace hf := gR_e hf
      obtain ⟨w125, fs126, r124, hh127, hk128, hf⟩ := hf
      refine v_getf (T := TX1) (ci := 1) 2 dX1_takes_83 q192 rfl in_X1 (Nat.le_of_ble_eq_true rfl) (Or.inl rfl) hh127 hk128 ?_
      refine v_iload_n (i := 1) dX1_takes_86 rfl rfl ?_
      obtain ⟨a129, rfl⟩ := aI_s hf
      replace hf := aI_e hf
      obtain ⟨w130, N131, f132, hh133, hi134, i135, ei135, hf⟩ := hf
      refine v_iald dX1_takes_87 hh133 hi134 ?_
      rw [← ei135]
      exact v_iret dX1_takes_88 rfl ⟨_, rfl, hf⟩
  · replace hf := hf.2 c34
    refine v_iconst (v := 1) dX1_takes_28 (by decide) ?_
    refine v_goto 33 dX1_takes_29 (by decide) ?_
    refine v_bipush (v := 7) dX1_takes_33 (by decide) ?_
    refine v_qload_n (r := (some a0)) (i := 0) dX1_takes_35 rfl rfl ?_
    replace hf := gI_e hf
    obtain ⟨w137, fs138, i136, hh139, hk140, hf⟩ := hf
    refine v_getf (T := TX1) (ci := 1) 3 dX1_takes_36 q193 rfl in_X1 (Nat.le_of_ble_eq_true rfl) (Or.inl rfl) hh139 hk140 ?_
    refine v_callSN (mc := 1) (ms := 8) 3 dX1_takes_39 (m_X0_refuse hG hf) rfl (lw_meth q514) q88 q512 q513 rfl (by decide +kernel) (by decide) rfl (cat_len (Nat.le_of_ble_eq_true rfl)) (kk_V fun h141 hg => ?_) (fun _ _ _ hx => vx_leave (by decide) hx)
    replace hf := hg
    clear hg
    refine v_qload_n (r := (some a0)) (i := 0) dX1_takes_42 rfl rfl ?_
    replace hf := gR_e hf
    obtain ⟨w143, fs144, r142, hh145, hk146, hf⟩ := hf
    refine v_getf (T := TX1) (ci := 1) 2 dX1_takes_43 q192 rfl in_X1 (Nat.le_of_ble_eq_true rfl) (Or.inl rfl) hh145 hk146 ?_
    refine v_iload_n (i := 1) dX1_takes_46 rfl rfl ?_
    obtain ⟨a147, rfl⟩ := aI_s hf
    replace hf := aI_e hf
    obtain ⟨w148, N149, f150, hh151, hi152, i153, ei153, hf⟩ := hf
    refine v_iald dX1_takes_47 hh151 hi152 ?_
    rw [← ei153]
    refine v_bipush (v := 9) dX1_takes_48 (by decide) ?_
    refine v_icmp_ne 57 dX1_takes_50 (by decide) (fun c154 => ?_) (fun c154 => ?_)
    · replace hf := hf.1 c154
      refine v_iconst (v := 0) dX1_takes_57 (by decide) ?_
      refine v_bipush (v := 10) dX1_takes_58 (by decide) ?_
      refine v_bipush (v := 10) dX1_takes_60 (by decide) ?_
      refine v_callSN (mc := 1) (ms := 8) 3 dX1_takes_62 (m_X0_refuse hG hf) rfl (lw_meth q514) q88 q512 q513 rfl (by decide +kernel) (by decide) rfl (cat_len (Nat.le_of_ble_eq_true rfl)) (kk_V fun h155 hg => ?_) (fun _ _ _ hx => vx_leave (by decide) hx)
      replace hf := hg
      clear hg
      refine v_qload_n (r := (some a27)) (i := 2) dX1_takes_65 rfl rfl ?_
      refine v_iload_n (i := 1) dX1_takes_66 rfl rfl ?_
      refine v_dup2 dX1_takes_67 rfl (rf_cat _) ?_
      replace hf := aI_e hf
      obtain ⟨w156, N157, f158, hh159, hi160, i161, ei161, hf⟩ := hf
      refine v_iald dX1_takes_68 hh159 hi160 ?_
      rw [← ei161]
      refine v_iconst (v := 1) dX1_takes_69 (by decide) ?_
      refine v_isub dX1_takes_70 ?_
      replace hf := sI_e hf
      obtain ⟨N162, f163, hh164, hi165, hf⟩ := hf
      refine v_iast dX1_takes_71 hh164 hi165 ?_
      obtain ⟨h166, eh166⟩ : ∃ z, z = hs h155 a27 (true, .inl (0, N162, .inl (upd f163 (i_1).toNatClampNeg (i161 - (1 : Int32))))) := ⟨_, rfl⟩
      try rw [← eh166] at hf
      rw [← eh166]
      refine v_qload_n (r := (some a0)) (i := 0) dX1_takes_72 rfl rfl ?_
      replace hf := gR_e hf
      obtain ⟨w168, fs169, r167, hh170, hk171, hf⟩ := hf
      refine v_getf (T := TX1) (ci := 1) 2 dX1_takes_73 q192 rfl in_X1 (Nat.le_of_ble_eq_true rfl) (Or.inl rfl) hh170 hk171 ?_
      refine v_iload_n (i := 1) dX1_takes_76 rfl rfl ?_
      refine v_dup2 dX1_takes_77 rfl (rf_cat _) ?_
      obtain ⟨a172, rfl⟩ := aI_s hf
      replace hf := aI_e hf
      obtain ⟨w173, N174, f175, hh176, hi177, i178, ei178, hf⟩ := hf
      refine v_iald dX1_takes_78 hh176 hi177 ?_
      rw [← ei178]
      refine v_iconst (v := 1) dX1_takes_79 (by decide) ?_
      refine v_iadd dX1_takes_80 ?_
      replace hf := sI_e hf
      obtain ⟨N179, f180, hh181, hi182, hf⟩ := hf
      refine v_iast dX1_takes_81 hh181 hi182 ?_
      obtain ⟨h183, eh183⟩ : ∃ z, z = hs h166 a172 (true, .inl (0, N179, .inl (upd f180 (i_1).toNatClampNeg (i178 + (1 : Int32))))) := ⟨_, rfl⟩
      try rw [← eh183] at hf
      rw [← eh183]
      refine v_qload_n (r := (some a0)) (i := 0) dX1_takes_82 rfl rfl ?_
      replace hf := gR_e hf
      obtain ⟨w185, fs186, r184, hh187, hk188, hf⟩ := hf
      refine v_getf (T := TX1) (ci := 1) 2 dX1_takes_83 q192 rfl in_X1 (Nat.le_of_ble_eq_true rfl) (Or.inl rfl) hh187 hk188 ?_
      refine v_iload_n (i := 1) dX1_takes_86 rfl rfl ?_
      obtain ⟨a189, rfl⟩ := aI_s hf
      replace hf := aI_e hf
      obtain ⟨w190, N191, f192, hh193, hi194, i195, ei195, hf⟩ := hf
      refine v_iald dX1_takes_87 hh193 hi194 ?_
      rw [← ei195]
      exact v_iret dX1_takes_88 rfl ⟨_, rfl, hf⟩
    · replace hf := hf.2 c154
      refine v_iconst (v := 1) dX1_takes_53 (by decide) ?_
      refine v_goto 58 dX1_takes_54 (by decide) ?_
      refine v_bipush (v := 10) dX1_takes_58 (by decide) ?_
      refine v_bipush (v := 10) dX1_takes_60 (by decide) ?_
      refine v_callSN (mc := 1) (ms := 8) 3 dX1_takes_62 (m_X0_refuse hG hf) rfl (lw_meth q514) q88 q512 q513 rfl (by decide +kernel) (by decide) rfl (cat_len (Nat.le_of_ble_eq_true rfl)) (kk_V fun h196 hg => ?_) (fun _ _ _ hx => vx_leave (by decide) hx)
      replace hf := hg
      clear hg
      refine v_qload_n (r := (some a27)) (i := 2) dX1_takes_65 rfl rfl ?_
      refine v_iload_n (i := 1) dX1_takes_66 rfl rfl ?_
      refine v_dup2 dX1_takes_67 rfl (rf_cat _) ?_
      replace hf := aI_e hf
      obtain ⟨w197, N198, f199, hh200, hi201, i202, ei202, hf⟩ := hf
      refine v_iald dX1_takes_68 hh200 hi201 ?_
      rw [← ei202]
      refine v_iconst (v := 1) dX1_takes_69 (by decide) ?_
      refine v_isub dX1_takes_70 ?_
      replace hf := sI_e hf
      obtain ⟨N203, f204, hh205, hi206, hf⟩ := hf
      refine v_iast dX1_takes_71 hh205 hi206 ?_
      obtain ⟨h207, eh207⟩ : ∃ z, z = hs h196 a27 (true, .inl (0, N203, .inl (upd f204 (i_1).toNatClampNeg (i202 - (1 : Int32))))) := ⟨_, rfl⟩
      try rw [← eh207] at hf
      rw [← eh207]
      refine v_qload_n (r := (some a0)) (i := 0) dX1_takes_72 rfl rfl ?_
      replace hf := gR_e hf
      obtain ⟨w209, fs210, r208, hh211, hk212, hf⟩ := hf
      refine v_getf (T := TX1) (ci := 1) 2 dX1_takes_73 q192 rfl in_X1 (Nat.le_of_ble_eq_true rfl) (Or.inl rfl) hh211 hk212 ?_
      refine v_iload_n (i := 1) dX1_takes_76 rfl rfl ?_
      refine v_dup2 dX1_takes_77 rfl (rf_cat _) ?_
      obtain ⟨a213, rfl⟩ := aI_s hf
      replace hf := aI_e hf
      obtain ⟨w214, N215, f216, hh217, hi218, i219, ei219, hf⟩ := hf
      refine v_iald dX1_takes_78 hh217 hi218 ?_
      rw [← ei219]
      refine v_iconst (v := 1) dX1_takes_79 (by decide) ?_
      refine v_iadd dX1_takes_80 ?_
      replace hf := sI_e hf
      obtain ⟨N220, f221, hh222, hi223, hf⟩ := hf
      refine v_iast dX1_takes_81 hh222 hi223 ?_
      obtain ⟨h224, eh224⟩ : ∃ z, z = hs h207 a213 (true, .inl (0, N220, .inl (upd f221 (i_1).toNatClampNeg (i219 + (1 : Int32))))) := ⟨_, rfl⟩
      try rw [← eh224] at hf
      rw [← eh224]
      refine v_qload_n (r := (some a0)) (i := 0) dX1_takes_82 rfl rfl ?_
      replace hf := gR_e hf
      obtain ⟨w226, fs227, r225, hh228, hk229, hf⟩ := hf
      refine v_getf (T := TX1) (ci := 1) 2 dX1_takes_83 q192 rfl in_X1 (Nat.le_of_ble_eq_true rfl) (Or.inl rfl) hh228 hk229 ?_
      refine v_iload_n (i := 1) dX1_takes_86 rfl rfl ?_
      obtain ⟨a230, rfl⟩ := aI_s hf
      replace hf := aI_e hf
      obtain ⟨w231, N232, f233, hh234, hi235, i236, ei236, hf⟩ := hf
      refine v_iald dX1_takes_87 hh234 hi235 ?_
      rw [← ei236]
      exact v_iret dX1_takes_88 rfl ⟨_, rfl, hf⟩
abbrev Y_X1_opens : Yt := (yX1_opens, some (.int), 6, 153, [])
def f_X1_opens (G : Gt) (h : Hp) (t_0 : Option Nat) (i_1 : Int32) (K : Int32 → Hp → Prop) (X : Nat → Nat → Hp → Prop) : Prop :=
gR h t_0 1 1 fun r1 =>
rv h r1 10 (f_J2_get G h r1 i_1 (fun r11 h10 =>
(oc h10 r11 5 ∧ rv h10 t_0 1 (f_X1_mustBeAt G h10 t_0 r11 (fun h15 =>
gI h15 r11 5 4 fun i16 =>
((¬ (i16 = 0) → f_X0_refuse G h15 (0 : Int32) (9 : Int32) i_1 (fun h23 =>
gR h23 t_0 1 2 fun r24 =>
gI h23 r11 5 3 fun i29 =>
aI h23 r24 0 i29 fun i40 =>
(((2 : Int32) ≤ i40 → f_X0_refuse G h23 (0 : Int32) (8 : Int32) i40 (fun h42 =>
gR h42 t_0 1 2 fun r43 =>
gI h42 r11 5 3 fun i48 =>
aI h42 r43 0 i48 fun i59 =>
sI h42 r43 i48 (i59 - (2 : Int32)) fun h64 =>
gI h64 t_0 1 6 fun i65 =>
pF h64 t_0 1 6 (.int (i65 + (2 : Int32))) fun h72 =>
gR h72 t_0 1 1 fun r73 =>
rv h72 r11 5 (f_X5_opened G h72 r11 (fun r82 h81 =>
rv h81 r73 10 (f_J2_set G h81 r73 i_1 r82 (fun r88 h87 =>
(oc h87 r88 5 ∧ gR h87 t_0 1 2 fun r89 =>
gI h87 r11 5 3 fun i94 =>
aI h87 r89 0 i94 fun i105 =>
K i105 h87)))))) X) ∧
(¬ ((2 : Int32) ≤ i40) → f_X0_refuse G h23 (1 : Int32) (8 : Int32) i40 (fun h106 =>
gR h106 t_0 1 2 fun r107 =>
gI h106 r11 5 3 fun i112 =>
aI h106 r107 0 i112 fun i123 =>
sI h106 r107 i112 (i123 - (2 : Int32)) fun h128 =>
gI h128 t_0 1 6 fun i129 =>
pF h128 t_0 1 6 (.int (i129 + (2 : Int32))) fun h136 =>
gR h136 t_0 1 1 fun r137 =>
rv h136 r11 5 (f_X5_opened G h136 r11 (fun r146 h145 =>
rv h145 r137 10 (f_J2_set G h145 r137 i_1 r146 (fun r152 h151 =>
(oc h151 r152 5 ∧ gR h151 t_0 1 2 fun r153 =>
gI h151 r11 5 3 fun i158 =>
aI h151 r153 0 i158 fun i169 =>
K i169 h151)))))) X))) X) ∧
(i16 = 0 → f_X0_refuse G h15 (1 : Int32) (9 : Int32) i_1 (fun h170 =>
gR h170 t_0 1 2 fun r171 =>
gI h170 r11 5 3 fun i176 =>
aI h170 r171 0 i176 fun i187 =>
(((2 : Int32) ≤ i187 → f_X0_refuse G h170 (0 : Int32) (8 : Int32) i187 (fun h189 =>
gR h189 t_0 1 2 fun r190 =>
gI h189 r11 5 3 fun i195 =>
aI h189 r190 0 i195 fun i206 =>
sI h189 r190 i195 (i206 - (2 : Int32)) fun h211 =>
gI h211 t_0 1 6 fun i212 =>
pF h211 t_0 1 6 (.int (i212 + (2 : Int32))) fun h219 =>
gR h219 t_0 1 1 fun r220 =>
rv h219 r11 5 (f_X5_opened G h219 r11 (fun r229 h228 =>
rv h228 r220 10 (f_J2_set G h228 r220 i_1 r229 (fun r235 h234 =>
(oc h234 r235 5 ∧ gR h234 t_0 1 2 fun r236 =>
gI h234 r11 5 3 fun i241 =>
aI h234 r236 0 i241 fun i252 =>
K i252 h234)))))) X) ∧
(¬ ((2 : Int32) ≤ i187) → f_X0_refuse G h170 (1 : Int32) (8 : Int32) i187 (fun h253 =>
gR h253 t_0 1 2 fun r254 =>
gI h253 r11 5 3 fun i259 =>
aI h253 r254 0 i259 fun i270 =>
sI h253 r254 i259 (i270 - (2 : Int32)) fun h275 =>
gI h275 t_0 1 6 fun i276 =>
pF h275 t_0 1 6 (.int (i276 + (2 : Int32))) fun h283 =>
gR h283 t_0 1 1 fun r284 =>
rv h283 r11 5 (f_X5_opened G h283 r11 (fun r293 h292 =>
rv h292 r284 10 (f_J2_set G h292 r284 i_1 r293 (fun r299 h298 =>
(oc h298 r299 5 ∧ gR h298 t_0 1 2 fun r300 =>
gI h298 r11 5 3 fun i305 =>
aI h298 r300 0 i305 fun i316 =>
K i316 h298)))))) X))) X))) X))))
theorem m_X1_opens {G : Gt} {h : Hp} {a0 : Nat} {i_1 : Int32} {K : Int32 → Hp → Prop} {X : Nat → Nat → Hp → Prop} (hG : Base G) (hf : f_X1_opens G h (some a0) i_1 K X) : MM G Y_X1_opens cX1_opens 5 4 30 [.ref a0, .int i_1] h (kI K) X := by
  refine mm_of hG (by decide +kernel) rfl (ac_c rfl (ac_c rfl ac_nil)) (Nat.le_of_ble_eq_true rfl) (fun E _ _ => ?_)
  show V G E Y_X1_opens cX1_opens 5 (QM G E (kI K) X) h 4 30 0 [(0, .ref a0), (1, .int i_1)] []
  unfold f_X1_opens at hf
  refine v_qload_n (r := (some a0)) (i := 0) dX1_opens_0 rfl rfl ?_
  replace hf := gR_e hf
  obtain ⟨w2, fs3, r1, hh4, hk5, hf⟩ := hf
  refine v_getf (T := TX1) (ci := 1) 1 dX1_opens_1 q190 rfl in_X1 (Nat.le_of_ble_eq_true rfl) (Or.inl rfl) hh4 hk5 ?_
  refine v_iload_n (i := 1) dX1_opens_4 rfl rfl ?_
  obtain ⟨a6, rfl⟩ := rv_s hf
  replace hf := rv_e hf
  obtain ⟨w7, fs8, hh9, hf⟩ := hf
  refine V.addK0 ?_
  refine V.addN0 ?_
  refine v_callV (mc := 0) (ms := 0) 1 dX1_opens_5 (m_J2_get hG hf) rfl hh9 rfl (lw_V q660 q661 q662 q92 q663) rfl (by decide +kernel) (by decide) rfl (cat_len (Nat.le_of_ble_eq_true rfl)) (kk_R fun r11 h10 hg => ?_) (fun _ _ _ hx => hx.elim)
  replace hf := hg
  clear hg
  obtain ⟨hoc, hf⟩ := hf
  refine v_castQS (r := r11) dX1_opens_8 q499 hoc rfl ?_
  refine v_qstore_n (i := 2) (r := r11) (lv' := [(0, va_rf (some a0)), (1, .int i_1), (2, va_rf r11)]) dX1_opens_11 rfl (Nat.le_of_ble_eq_true rfl) rfl rfl ?_
  refine v_qload_n (r := (some a0)) (i := 0) dX1_opens_12 rfl rfl ?_
  refine v_qload_n (r := r11) (i := 2) dX1_opens_13 rfl rfl ?_
  replace hf := rv_e hf
  obtain ⟨w12, fs13, hh14, hf⟩ := hf
  refine v_callV (mc := 1) (ms := 8) 1 dX1_opens_14 (m_X1_mustBeAt hG hf) rfl hh14 rfl (lw_V q1684 q1686 qs20 q89 q1687) rfl (by decide +kernel) (by decide) rfl (cat_len (Nat.le_of_ble_eq_true rfl)) (kk_V fun h15 hg => ?_) (fun _ _ _ hx => vx_leave (by decide) hx)
  replace hf := hg
  clear hg
  refine v_qload_n (r := r11) (i := 2) dX1_opens_17 rfl rfl ?_
  obtain ⟨a17, rfl⟩ := gI_s hf
  replace hf := gI_e hf
  obtain ⟨w18, fs19, i16, hh20, hk21, hf⟩ := hf
  refine v_getfN (T := TX5) (ci := 5) 4 dX1_opens_18 q700 rfl in_X5 (Nat.le_of_ble_eq_true rfl) (Or.inl rfl) hh20 hk21 ?_
  refine v_if_ne 28 dX1_opens_21 (by decide) (fun c22 => ?_) (fun c22 => ?_)
  · replace hf := hf.1 c22
    refine v_iconst (v := 0) dX1_opens_28 (by decide) ?_
    refine v_bipush (v := 9) dX1_opens_29 (by decide) ?_
    refine v_iload_n (i := 1) dX1_opens_31 rfl rfl ?_
    refine v_callSN (mc := 1) (ms := 8) 3 dX1_opens_32 (m_X0_refuse hG hf) rfl (lw_meth q514) q88 q512 q513 rfl (by decide +kernel) (by decide) rfl (cat_len (Nat.le_of_ble_eq_true rfl)) (kk_V fun h23 hg => ?_) (fun _ _ _ hx => vx_leave (by decide) hx)
    replace hf := hg
    clear hg
    refine v_qload_n (r := (some a0)) (i := 0) dX1_opens_35 rfl rfl ?_
    replace hf := gR_e hf
    obtain ⟨w25, fs26, r24, hh27, hk28, hf⟩ := hf
    refine v_getf (T := TX1) (ci := 1) 2 dX1_opens_36 q192 rfl in_X1 (Nat.le_of_ble_eq_true rfl) (Or.inl rfl) hh27 hk28 ?_
    refine v_qload_n (r := (some a17)) (i := 2) dX1_opens_39 rfl rfl ?_
    replace hf := gI_e hf
    obtain ⟨w30, fs31, i29, hh32, hk33, hf⟩ := hf
    refine v_getfN (T := TX5) (ci := 5) 3 dX1_opens_40 q698 rfl in_X5 (Nat.le_of_ble_eq_true rfl) (Or.inl rfl) hh32 hk33 ?_
    obtain ⟨a34, rfl⟩ := aI_s hf
    replace hf := aI_e hf
    obtain ⟨w35, N36, f37, hh38, hi39, i40, ei40, hf⟩ := hf
    refine v_iald dX1_opens_43 hh38 hi39 ?_
    rw [← ei40]
    refine v_istore_n (i := 3) (lv' := [(0, va_rf (some a0)), (1, .int i_1), (2, va_rf (some a17)), (3, .int i40)]) dX1_opens_44 rfl (Nat.le_of_ble_eq_true rfl) rfl rfl ?_
    refine v_iload_n (i := 3) dX1_opens_45 rfl rfl ?_
    refine v_iconst (v := 2) dX1_opens_46 (by decide) ?_
    refine v_icmp_ge 54 dX1_opens_47 (by decide) (fun c41 => ?_) (fun c41 => ?_)
    · replace hf := hf.1 c41
      refine v_iconst (v := 0) dX1_opens_54 (by decide) ?_
      refine v_bipush (v := 8) dX1_opens_55 (by decide) ?_
      refine v_iload_n (i := 3) dX1_opens_57 rfl rfl ?_
      refine v_callSN (mc := 1) (ms := 8) 3 dX1_opens_58 (m_X0_refuse hG hf) rfl (lw_meth q514) q88 q512 q513 rfl (by decide +kernel) (by decide) rfl (cat_len (Nat.le_of_ble_eq_true rfl)) (kk_V fun h42 hg => ?_) (fun _ _ _ hx => vx_leave (by decide) hx)
      replace hf := hg
      clear hg
      refine v_qload_n (r := (some a0)) (i := 0) dX1_opens_61 rfl rfl ?_
      replace hf := gR_e hf
      obtain ⟨w44, fs45, r43, hh46, hk47, hf⟩ := hf
      refine v_getf (T := TX1) (ci := 1) 2 dX1_opens_62 q192 rfl in_X1 (Nat.le_of_ble_eq_true rfl) (Or.inl rfl) hh46 hk47 ?_
      refine v_qload_n (r := (some a17)) (i := 2) dX1_opens_65 rfl rfl ?_
      replace hf := gI_e hf
      obtain ⟨w49, fs50, i48, hh51, hk52, hf⟩ := hf
      refine v_getfN (T := TX5) (ci := 5) 3 dX1_opens_66 q698 rfl in_X5 (Nat.le_of_ble_eq_true rfl) (Or.inl rfl) hh51 hk52 ?_
      refine v_dup2 dX1_opens_69 rfl (rf_cat _) ?_
      obtain ⟨a53, rfl⟩ := aI_s hf
      replace hf := aI_e hf
      obtain ⟨w54, N55, f56, hh57, hi58, i59, ei59, hf⟩ := hf
      refine v_iald dX1_opens_70 hh57 hi58 ?_
      rw [← ei59]
      refine v_iconst (v := 2) dX1_opens_71 (by decide) ?_
      refine v_isub dX1_opens_72 ?_
      replace hf := sI_e hf
      obtain ⟨N60, f61, hh62, hi63, hf⟩ := hf
      refine v_iast dX1_opens_73 hh62 hi63 ?_
      obtain ⟨h64, eh64⟩ : ∃ z, z = hs h42 a53 (true, .inl (0, N60, .inl (upd f61 (i48).toNatClampNeg (i59 - (2 : Int32))))) := ⟨_, rfl⟩
      try rw [← eh64] at hf
      rw [← eh64]
      refine v_qload_n (r := (some a0)) (i := 0) dX1_opens_74 rfl rfl ?_
      refine v_dup dX1_opens_75 (rf_cat _) ?_
      replace hf := gI_e hf
      obtain ⟨w66, fs67, i65, hh68, hk69, hf⟩ := hf
      refine v_getf (T := TX1) (ci := 1) 6 dX1_opens_76 q198 rfl in_X1 (Nat.le_of_ble_eq_true rfl) (Or.inl rfl) hh68 hk69 ?_
      refine v_iconst (v := 2) dX1_opens_79 (by decide) ?_
      refine v_iadd dX1_opens_80 ?_
      replace hf := pF_e hf
      obtain ⟨fs70, hh71, hf⟩ := hf
      refine v_putf (v := .int (i65 + (2 : Int32))) (T := TX1) (ci := 1) (ty := .int) 6 dX1_opens_81 q198 rfl in_X1 tyX1 tyX1_ok nmX1 (Nat.le_of_ble_eq_true rfl) (Or.inl rfl) rfl (by decide +kernel) rfl rfl hh71 ?_
      obtain ⟨h72, eh72⟩ : ∃ z, z = hs h64 a0 (true, .inr (1, fs70.set 6 (.int (i65 + (2 : Int32))))) := ⟨_, rfl⟩
      try rw [← eh72] at hf
      rw [← eh72]
      refine v_qload_n (r := (some a0)) (i := 0) dX1_opens_84 rfl rfl ?_
      replace hf := gR_e hf
      obtain ⟨w74, fs75, r73, hh76, hk77, hf⟩ := hf
      refine v_getf (T := TX1) (ci := 1) 1 dX1_opens_85 q190 rfl in_X1 (Nat.le_of_ble_eq_true rfl) (Or.inl rfl) hh76 hk77 ?_
      refine v_iload_n (i := 1) dX1_opens_88 rfl rfl ?_
      refine v_qload_n (r := (some a17)) (i := 2) dX1_opens_89 rfl rfl ?_
      replace hf := rv_e hf
      obtain ⟨w78, fs79, hh80, hf⟩ := hf
      refine v_callV (mc := 1) (ms := 6) 0 dX1_opens_90 (m_X5_opened hG hf) rfl hh80 rfl (lw_V q1735 q1736 q1737 q110 q1738) rfl (by decide +kernel) (by decide) rfl (cat_len (Nat.le_of_ble_eq_true rfl)) (kk_R fun r82 h81 hg => ?_) (fun _ _ _ hx => hx.elim)
      replace hf := hg
      clear hg
      obtain ⟨a83, rfl⟩ := rv_s hf
      replace hf := rv_e hf
      obtain ⟨w84, fs85, hh86, hf⟩ := hf
      refine V.addK0 ?_
      refine V.addN0 ?_
      refine v_callV (mc := 0) (ms := 0) 2 dX1_opens_93 (m_J2_set hG hf) rfl hh86 rfl (lw_V q1703 q1704 q1705 q92 q1706) rfl (by decide +kernel) (by decide) rfl (cat_len (Nat.le_of_ble_eq_true rfl)) (kk_R fun r88 h87 hg => ?_) (fun _ _ _ hx => hx.elim)
      replace hf := hg
      clear hg
      obtain ⟨hoc, hf⟩ := hf
      refine v_castQS (r := r88) dX1_opens_96 q499 hoc rfl ?_
      refine v_qstore (i := 4) (r := r88) (lv' := [(0, va_rf (some a0)), (1, .int i_1), (2, va_rf (some a17)), (3, .int i40), (4, va_rf r88)]) dX1_opens_99 (Nat.le_of_ble_eq_true rfl) rfl rfl ?_
      refine v_qload_n (r := (some a0)) (i := 0) dX1_opens_101 rfl rfl ?_
      replace hf := gR_e hf
      obtain ⟨w90, fs91, r89, hh92, hk93, hf⟩ := hf
      refine v_getf (T := TX1) (ci := 1) 2 dX1_opens_102 q192 rfl in_X1 (Nat.le_of_ble_eq_true rfl) (Or.inl rfl) hh92 hk93 ?_
      refine v_qload_n (r := (some a17)) (i := 2) dX1_opens_105 rfl rfl ?_
      replace hf := gI_e hf
      obtain ⟨w95, fs96, i94, hh97, hk98, hf⟩ := hf
      refine v_getfN (T := TX5) (ci := 5) 3 dX1_opens_106 q698 rfl in_X5 (Nat.le_of_ble_eq_true rfl) (Or.inl rfl) hh97 hk98 ?_
      obtain ⟨a99, rfl⟩ := aI_s hf
      replace hf := aI_e hf
      obtain ⟨w100, N101, f102, hh103, hi104, i105, ei105, hf⟩ := hf
      refine v_iald dX1_opens_109 hh103 hi104 ?_
      rw [← ei105]
      exact v_iret dX1_opens_110 rfl ⟨_, rfl, hf⟩
    · replace hf := hf.2 c41
      refine v_iconst (v := 1) dX1_opens_50 (by decide) ?_
      refine v_goto 55 dX1_opens_51 (by decide) ?_
      refine v_bipush (v := 8) dX1_opens_55 (by decide) ?_
      refine v_iload_n (i := 3) dX1_opens_57 rfl rfl ?_
      refine v_callSN (mc := 1) (ms := 8) 3 dX1_opens_58 (m_X0_refuse hG hf) rfl (lw_meth q514) q88 q512 q513 rfl (by decide +kernel) (by decide) rfl (cat_len (Nat.le_of_ble_eq_true rfl)) (kk_V fun h106 hg => ?_) (fun _ _ _ hx => vx_leave (by decide) hx)
      replace hf := hg
      clear hg
      refine v_qload_n (r := (some a0)) (i := 0) dX1_opens_61 rfl rfl ?_
      replace hf := gR_e hf
      obtain ⟨w108, fs109, r107, hh110, hk111, hf⟩ := hf
      refine v_getf (T := TX1) (ci := 1) 2 dX1_opens_62 q192 rfl in_X1 (Nat.le_of_ble_eq_true rfl) (Or.inl rfl) hh110 hk111 ?_
      refine v_qload_n (r := (some a17)) (i := 2) dX1_opens_65 rfl rfl ?_
      replace hf := gI_e hf
      obtain ⟨w113, fs114, i112, hh115, hk116, hf⟩ := hf
      refine v_getfN (T := TX5) (ci := 5) 3 dX1_opens_66 q698 rfl in_X5 (Nat.le_of_ble_eq_true rfl) (Or.inl rfl) hh115 hk116 ?_
      refine v_dup2 dX1_opens_69 rfl (rf_cat _) ?_
      obtain ⟨a117, rfl⟩ := aI_s hf
      replace hf := aI_e hf
      obtain ⟨w118, N119, f120, hh121, hi122, i123, ei123, hf⟩ := hf
      refine v_iald dX1_opens_70 hh121 hi122 ?_
      rw [← ei123]
      refine v_iconst (v := 2) dX1_opens_71 (by decide) ?_
      refine v_isub dX1_opens_72 ?_
      replace hf := sI_e hf
      obtain ⟨N124, f125, hh126, hi127, hf⟩ := hf
      refine v_iast dX1_opens_73 hh126 hi127 ?_
      obtain ⟨h128, eh128⟩ : ∃ z, z = hs h106 a117 (true, .inl (0, N124, .inl (upd f125 (i112).toNatClampNeg (i123 - (2 : Int32))))) := ⟨_, rfl⟩
      try rw [← eh128] at hf
      rw [← eh128]
      refine v_qload_n (r := (some a0)) (i := 0) dX1_opens_74 rfl rfl ?_
      refine v_dup dX1_opens_75 (rf_cat _) ?_
      replace hf := gI_e hf
      obtain ⟨w130, fs131, i129, hh132, hk133, hf⟩ := hf
      refine v_getf (T := TX1) (ci := 1) 6 dX1_opens_76 q198 rfl in_X1 (Nat.le_of_ble_eq_true rfl) (Or.inl rfl) hh132 hk133 ?_
      refine v_iconst (v := 2) dX1_opens_79 (by decide) ?_
      refine v_iadd dX1_opens_80 ?_
      replace hf := pF_e hf
      obtain ⟨fs134, hh135, hf⟩ := hf
      refine v_putf (v := .int (i129 + (2 : Int32))) (T := TX1) (ci := 1) (ty := .int) 6 dX1_opens_81 q198 rfl in_X1 tyX1 tyX1_ok nmX1 (Nat.le_of_ble_eq_true rfl) (Or.inl rfl) rfl (by decide +kernel) rfl rfl hh135 ?_
      obtain ⟨h136, eh136⟩ : ∃ z, z = hs h128 a0 (true, .inr (1, fs134.set 6 (.int (i129 + (2 : Int32))))) := ⟨_, rfl⟩
      try rw [← eh136] at hf
      rw [← eh136]
      refine v_qload_n (r := (some a0)) (i := 0) dX1_opens_84 rfl rfl ?_
      replace hf := gR_e hf
      obtain ⟨w138, fs139, r137, hh140, hk141, hf⟩ := hf
      refine v_getf (T := TX1) (ci := 1) 1 dX1_opens_85 q190 rfl in_X1 (Nat.le_of_ble_eq_true rfl) (Or.inl rfl) hh140 hk141 ?_
      refine v_iload_n (i := 1) dX1_opens_88 rfl rfl ?_
      refine v_qload_n (r := (some a17)) (i := 2) dX1_opens_89 rfl rfl ?_
      replace hf := rv_e hf
      obtain ⟨w142, fs143, hh144, hf⟩ := hf
      refine v_callV (mc := 1) (ms := 6) 0 dX1_opens_90 (m_X5_opened hG hf) rfl hh144 rfl (lw_V q1735 q1736 q1737 q110 q1738) rfl (by decide +kernel) (by decide) rfl (cat_len (Nat.le_of_ble_eq_true rfl)) (kk_R fun r146 h145 hg => ?_) (fun _ _ _ hx => hx.elim)
      replace hf := hg
      clear hg
      obtain ⟨a147, rfl⟩ := rv_s hf
      replace hf := rv_e hf
      obtain ⟨w148, fs149, hh150, hf⟩ := hf
      refine V.addK0 ?_
      refine V.addN0 ?_
      refine v_callV (mc := 0) (ms := 0) 2 dX1_opens_93 (m_J2_set hG hf) rfl hh150 rfl (lw_V q1703 q1704 q1705 q92 q1706) rfl (by decide +kernel) (by decide) rfl (cat_len (Nat.le_of_ble_eq_true rfl)) (kk_R fun r152 h151 hg => ?_) (fun _ _ _ hx => hx.elim)
      replace hf := hg
      clear hg
      obtain ⟨hoc, hf⟩ := hf
      refine v_castQS (r := r152) dX1_opens_96 q499 hoc rfl ?_
      refine v_qstore (i := 4) (r := r152) (lv' := [(0, va_rf (some a0)), (1, .int i_1), (2, va_rf (some a17)), (3, .int i40), (4, va_rf r152)]) dX1_opens_99 (Nat.le_of_ble_eq_true rfl) rfl rfl ?_
      refine v_qload_n (r := (some a0)) (i := 0) dX1_opens_101 rfl rfl ?_
      replace hf := gR_e hf
      obtain ⟨w154, fs155, r153, hh156, hk157, hf⟩ := hf
      refine v_getf (T := TX1) (ci := 1) 2 dX1_opens_102 q192 rfl in_X1 (Nat.le_of_ble_eq_true rfl) (Or.inl rfl) hh156 hk157 ?_
      refine v_qload_n (r := (some a17)) (i := 2) dX1_opens_105 rfl rfl ?_
      replace hf := gI_e hf
      obtain ⟨w159, fs160, i158, hh161, hk162, hf⟩ := hf
      refine v_getfN (T := TX5) (ci := 5) 3 dX1_opens_106 q698 rfl in_X5 (Nat.le_of_ble_eq_true rfl) (Or.inl rfl) hh161 hk162 ?_
      obtain ⟨a163, rfl⟩ := aI_s hf
      replace hf := aI_e hf
      obtain ⟨w164, N165, f166, hh167, hi168, i169, ei169, hf⟩ := hf
      refine v_iald dX1_opens_109 hh167 hi168 ?_
      rw [← ei169]
      exact v_iret dX1_opens_110 rfl ⟨_, rfl, hf⟩
  · replace hf := hf.2 c22
    refine v_iconst (v := 1) dX1_opens_24 (by decide) ?_
    refine v_goto 29 dX1_opens_25 (by decide) ?_
    refine v_bipush (v := 9) dX1_opens_29 (by decide) ?_
    refine v_iload_n (i := 1) dX1_opens_31 rfl rfl ?_
    refine v_callSN (mc := 1) (ms := 8) 3 dX1_opens_32 (m_X0_refuse hG hf) rfl (lw_meth q514) q88 q512 q513 rfl (by decide +kernel) (by decide) rfl (cat_len (Nat.le_of_ble_eq_true rfl)) (kk_V fun h170 hg => ?_) (fun _ _ _ hx => vx_leave (by decide) hx)
    replace hf := hg
    clear hg
    refine v_qload_n (r := (some a0)) (i := 0) dX1_opens_35 rfl rfl ?_
    replace hf := gR_e hf
    obtain ⟨w172, fs173, r171, hh174, hk175, hf⟩ := hf
    refine v_getf (T := TX1) (ci := 1) 2 dX1_opens_36 q192 rfl in_X1 (Nat.le_of_ble_eq_true rfl) (Or.inl rfl) hh174 hk175 ?_
    refine v_qload_n (r := (some a17)) (i := 2) dX1_opens_39 rfl rfl ?_
    replace hf := gI_e hf
    obtain ⟨w177, fs178, i176, hh179, hk180, hf⟩ := hf
    refine v_getfN (T := TX5) (ci := 5) 3 dX1_opens_40 q698 rfl in_X5 (Nat.le_of_ble_eq_true rfl) (Or.inl rfl) hh179 hk180 ?_
    obtain ⟨a181, rfl⟩ := aI_s hf
    replace hf := aI_e hf
    obtain ⟨w182, N183, f184, hh185, hi186, i187, ei187, hf⟩ := hf
    refine v_iald dX1_opens_43 hh185 hi186 ?_
    rw [← ei187]
    refine v_istore_n (i := 3) (lv' := [(0, va_rf (some a0)), (1, .int i_1), (2, va_rf (some a17)), (3, .int i187)]) dX1_opens_44 rfl (Nat.le_of_ble_eq_true rfl) rfl rfl ?_
    refine v_iload_n (i := 3) dX1_opens_45 rfl rfl ?_
    refine v_iconst (v := 2) dX1_opens_46 (by decide) ?_
    refine v_icmp_ge 54 dX1_opens_47 (by decide) (fun c188 => ?_) (fun c188 => ?_)
    · replace hf := hf.1 c188
      refine v_iconst (v := 0) dX1_opens_54 (by decide) ?_
      refine v_bipush (v := 8) dX1_opens_55 (by decide) ?_
      refine v_iload_n (i := 3) dX1_opens_57 rfl rfl ?_
      refine v_callSN (mc := 1) (ms := 8) 3 dX1_opens_58 (m_X0_refuse hG hf) rfl (lw_meth q514) q88 q512 q513 rfl (by decide +kernel) (by decide) rfl (cat_len (Nat.le_of_ble_eq_true rfl)) (kk_V fun h189 hg => ?_) (fun _ _ _ hx => vx_leave (by decide) hx)
      replace hf := hg
      clear hg
      refine v_qload_n (r := (some a0)) (i := 0) dX1_opens_61 rfl rfl ?_
      replace hf := gR_e hf
      obtain ⟨w191, fs192, r190, hh193, hk194, hf⟩ := hf
      refine v_getf (T := TX1) (ci := 1) 2 dX1_opens_62 q192 rfl in_X1 (Nat.le_of_ble_eq_true rfl) (Or.inl rfl) hh193 hk194 ?_
      refine v_qload_n (r := (some a17)) (i := 2) dX1_opens_65 rfl rfl ?_
      replace hf := gI_e hf
      obtain ⟨w196, fs197, i195, hh198, hk199, hf⟩ := hf
      refine v_getfN (T := TX5) (ci := 5) 3 dX1_opens_66 q698 rfl in_X5 (Nat.le_of_ble_eq_true rfl) (Or.inl rfl) hh198 hk199 ?_
      refine v_dup2 dX1_opens_69 rfl (rf_cat _) ?_
      obtain ⟨a200, rfl⟩ := aI_s hf
      replace hf := aI_e hf
      obtain ⟨w201, N202, f203, hh204, hi205, i206, ei206, hf⟩ := hf
      refine v_iald dX1_opens_70 hh204 hi205 ?_
      rw [← ei206]
      refine v_iconst (v := 2) dX1_opens_71 (by decide) ?_
      refine v_isub dX1_opens_72 ?_
      replace hf := sI_e hf
      obtain ⟨N207, f208, hh209, hi210, hf⟩ := hf
      refine v_iast dX1_opens_73 hh209 hi210 ?_
      obtain ⟨h211, eh211⟩ : ∃ z, z = hs h189 a200 (true, .inl (0, N207, .inl (upd f208 (i195).toNatClampNeg (i206 - (2 : Int32))))) := ⟨_, rfl⟩
      try rw [← eh211] at hf
      rw [← eh211]
      refine v_qload_n (r := (some a0)) (i := 0) dX1_opens_74 rfl rfl ?_
      refine v_dup dX1_opens_75 (rf_cat _) ?_
      replace hf := gI_e hf
      obtain ⟨w213, fs214, i212, hh215, hk216, hf⟩ := hf
      refine v_getf (T := TX1) (ci := 1) 6 dX1_opens_76 q198 rfl in_X1 (Nat.le_of_ble_eq_true rfl) (Or.inl rfl) hh215 hk216 ?_
      refine v_iconst (v := 2) dX1_opens_79 (by decide) ?_
      refine v_iadd dX1_opens_80 ?_
      replace hf := pF_e hf
      obtain ⟨fs217, hh218, hf⟩ := hf
      refine v_putf (v := .int (i212 + (2 : Int32))) (T := TX1) (ci := 1) (ty := .int) 6 dX1_opens_81 q198 rfl in_X1 tyX1 tyX1_ok nmX1 (Nat.le_of_ble_eq_true rfl) (Or.inl rfl) rfl (by decide +kernel) rfl rfl hh218 ?_
      obtain ⟨h219, eh219⟩ : ∃ z, z = hs h211 a0 (true, .inr (1, fs217.set 6 (.int (i212 + (2 : Int32))))) := ⟨_, rfl⟩
      try rw [← eh219] at hf
      rw [← eh219]
      refine v_qload_n (r := (some a0)) (i := 0) dX1_opens_84 rfl rfl ?_
      replace hf := gR_e hf
      obtain ⟨w221, fs222, r220, hh223, hk224, hf⟩ := hf
      refine v_getf (T := TX1) (ci := 1) 1 dX1_opens_85 q190 rfl in_X1 (Nat.le_of_ble_eq_true rfl) (Or.inl rfl) hh223 hk224 ?_
      refine v_iload_n (i := 1) dX1_opens_88 rfl rfl ?_
      refine v_qload_n (r := (some a17)) (i := 2) dX1_opens_89 rfl rfl ?_
      replace hf := rv_e hf
      obtain ⟨w225, fs226, hh227, hf⟩ := hf
      refine v_callV (mc := 1) (ms := 6) 0 dX1_opens_90 (m_X5_opened hG hf) rfl hh227 rfl (lw_V q1735 q1736 q1737 q110 q1738) rfl (by decide +kernel) (by decide) rfl (cat_len (Nat.le_of_ble_eq_true rfl)) (kk_R fun r229 h228 hg => ?_) (fun _ _ _ hx => hx.elim)
      replace hf := hg
      clear hg
      obtain ⟨a230, rfl⟩ := rv_s hf
      replace hf := rv_e hf
      obtain ⟨w231, fs232, hh233, hf⟩ := hf
      refine V.addK0 ?_
      refine V.addN0 ?_
      refine v_callV (mc := 0) (ms := 0) 2 dX1_opens_93 (m_J2_set hG hf) rfl hh233 rfl (lw_V q1703 q1704 q1705 q92 q1706) rfl (by decide +kernel) (by decide) rfl (cat_len (Nat.le_of_ble_eq_true rfl)) (kk_R fun r235 h234 hg => ?_) (fun _ _ _ hx => hx.elim)
      replace hf := hg
      clear hg
      obtain ⟨hoc, hf⟩ := hf
      refine v_castQS (r := r235) dX1_opens_96 q499 hoc rfl ?_
      refine v_qstore (i := 4) (r := r235) (lv' := [(0, va_rf (some a0)), (1, .int i_1), (2, va_rf (some a17)), (3, .int i187), (4, va_rf r235)]) dX1_opens_99 (Nat.le_of_ble_eq_true rfl) rfl rfl ?_
      refine v_qload_n (r := (some a0)) (i := 0) dX1_opens_101 rfl rfl ?_
      replace hf := gR_e hf
      obtain ⟨w237, fs238, r236, hh239, hk240, hf⟩ := hf
      refine v_getf (T := TX1) (ci := 1) 2 dX1_opens_102 q192 rfl in_X1 (Nat.le_of_ble_eq_true rfl) (Or.inl rfl) hh239 hk240 ?_
      refine v_qload_n (r := (some a17)) (i := 2) dX1_opens_105 rfl rfl ?_
      replace hf := gI_e hf
      obtain ⟨w242, fs243, i241, hh244, hk245, hf⟩ := hf
      refine v_getfN (T := TX5) (ci := 5) 3 dX1_opens_106 q698 rfl in_X5 (Nat.le_of_ble_eq_true rfl) (Or.inl rfl) hh244 hk245 ?_
      obtain ⟨a246, rfl⟩ := aI_s hf
      replace hf := aI_e hf
      obtain ⟨w247, N248, f249, hh250, hi251, i252, ei252, hf⟩ := hf
      refine v_iald dX1_opens_109 hh250 hi251 ?_
      rw [← ei252]
      exact v_iret dX1_opens_110 rfl ⟨_, rfl, hf⟩
    · replace hf := hf.2 c188
      refine v_iconst (v := 1) dX1_opens_50 (by decide) ?_
      refine v_goto 55 dX1_opens_51 (by decide) ?_
      refine v_bipush (v := 8) dX1_opens_55 (by decide) ?_
      refine v_iload_n (i := 3) dX1_opens_57 rfl rfl ?_
      refine v_callSN (mc := 1) (ms := 8) 3 dX1_opens_58 (m_X0_refuse hG hf) rfl (lw_meth q514) q88 q512 q513 rfl (by decide +kernel) (by decide) rfl (cat_len (Nat.le_of_ble_eq_true rfl)) (kk_V fun h253 hg => ?_) (fun _ _ _ hx => vx_leave (by decide) hx)
      replace hf := hg
      clear hg
      refine v_qload_n (r := (some a0)) (i := 0) dX1_opens_61 rfl rfl ?_
      replace hf := gR_e hf
      obtain ⟨w255, fs256, r254, hh257, hk258, hf⟩ := hf
      refine v_getf (T := TX1) (ci := 1) 2 dX1_opens_62 q192 rfl in_X1 (Nat.le_of_ble_eq_true rfl) (Or.inl rfl) hh257 hk258 ?_
      refine v_qload_n (r := (some a17)) (i := 2) dX1_opens_65 rfl rfl ?_
      replace hf := gI_e hf
      obtain ⟨w260, fs261, i259, hh262, hk263, hf⟩ := hf
      refine v_getfN (T := TX5) (ci := 5) 3 dX1_opens_66 q698 rfl in_X5 (Nat.le_of_ble_eq_true rfl) (Or.inl rfl) hh262 hk263 ?_
      refine v_dup2 dX1_opens_69 rfl (rf_cat _) ?_
      obtain ⟨a264, rfl⟩ := aI_s hf
      replace hf := aI_e hf
      obtain ⟨w265, N266, f267, hh268, hi269, i270, ei270, hf⟩ := hf
      refine v_iald dX1_opens_70 hh268 hi269 ?_
      rw [← ei270]
      refine v_iconst (v := 2) dX1_opens_71 (by decide) ?_
      refine v_isub dX1_opens_72 ?_
      replace hf := sI_e hf
      obtain ⟨N271, f272, hh273, hi274, hf⟩ := hf
      refine v_iast dX1_opens_73 hh273 hi274 ?_
      obtain ⟨h275, eh275⟩ : ∃ z, z = hs h253 a264 (true, .inl (0, N271, .inl (upd f272 (i259).toNatClampNeg (i270 - (2 : Int32))))) := ⟨_, rfl⟩
      try rw [← eh275] at hf
      rw [← eh275]
      refine v_qload_n (r := (some a0)) (i := 0) dX1_opens_74 rfl rfl ?_
      refine v_dup dX1_opens_75 (rf_cat _) ?_
      replace hf := gI_e hf
      obtain ⟨w277, fs278, i276, hh279, hk280, hf⟩ := hf
      refine v_getf (T := TX1) (ci := 1) 6 dX1_opens_76 q198 rfl in_X1 (Nat.le_of_ble_eq_true rfl) (Or.inl rfl) hh279 hk280 ?_
      refine v_iconst (v := 2) dX1_opens_79 (by decide) ?_
      refine v_iadd dX1_opens_80 ?_
      replace hf := pF_e hf
      obtain ⟨fs281, hh282, hf⟩ := hf
      refine v_putf (v := .int (i276 + (2 : Int32))) (T := TX1) (ci := 1) (ty := .int) 6 dX1_opens_81 q198 rfl in_X1 tyX1 tyX1_ok nmX1 (Nat.le_of_ble_eq_true rfl) (Or.inl rfl) rfl (by decide +kernel) rfl rfl hh282 ?_
      obtain ⟨h283, eh283⟩ : ∃ z, z = hs h275 a0 (true, .inr (1, fs281.set 6 (.int (i276 + (2 : Int32))))) := ⟨_, rfl⟩
      try rw [← eh283] at hf
      rw [← eh283]
      refine v_qload_n (r := (some a0)) (i := 0) dX1_opens_84 rfl rfl ?_
      replace hf := gR_e hf
      obtain ⟨w285, fs286, r284, hh287, hk288, hf⟩ := hf
      refine v_getf (T := TX1) (ci := 1) 1 dX1_opens_85 q190 rfl in_X1 (Nat.le_of_ble_eq_true rfl) (Or.inl rfl) hh287 hk288 ?_
      refine v_iload_n (i := 1) dX1_opens_88 rfl rfl ?_
      refine v_qload_n (r := (some a17)) (i := 2) dX1_opens_89 rfl rfl ?_
      replace hf := rv_e hf
      obtain ⟨w289, fs290, hh291, hf⟩ := hf
      refine v_callV (mc := 1) (ms := 6) 0 dX1_opens_90 (m_X5_opened hG hf) rfl hh291 rfl (lw_V q1735 q1736 q1737 q110 q1738) rfl (by decide +kernel) (by decide) rfl (cat_len (Nat.le_of_ble_eq_true rfl)) (kk_R fun r293 h292 hg => ?_) (fun _ _ _ hx => hx.elim)
      replace hf := hg
      clear hg
      obtain ⟨a294, rfl⟩ := rv_s hf
      replace hf := rv_e hf
      obtain ⟨w295, fs296, hh297, hf⟩ := hf
      refine V.addK0 ?_
      refine V.addN0 ?_
      refine v_callV (mc := 0) (ms := 0) 2 dX1_opens_93 (m_J2_set hG hf) rfl hh297 rfl (lw_V q1703 q1704 q1705 q92 q1706) rfl (by decide +kernel) (by decide) rfl (cat_len (Nat.le_of_ble_eq_true rfl)) (kk_R fun r299 h298 hg => ?_) (fun _ _ _ hx => hx.elim)
      replace hf := hg
      clear hg
      obtain ⟨hoc, hf⟩ := hf
      refine v_castQS (r := r299) dX1_opens_96 q499 hoc rfl ?_
      refine v_qstore (i := 4) (r := r299) (lv' := [(0, va_rf (some a0)), (1, .int i_1), (2, va_rf (some a17)), (3, .int i187), (4, va_rf r299)]) dX1_opens_99 (Nat.le_of_ble_eq_true rfl) rfl rfl ?_
      refine v_qload_n (r := (some a0)) (i := 0) dX1_opens_101 rfl rfl ?_
      replace hf := gR_e hf
      obtain ⟨w301, fs302, r300, hh303, hk304, hf⟩ := hf
      refine v_getf (T := TX1) (ci := 1) 2 dX1_opens_102 q192 rfl in_X1 (Nat.le_of_ble_eq_true rfl) (Or.inl rfl) hh303 hk304 ?_
      refine v_qload_n (r := (some a17)) (i := 2) dX1_opens_105 rfl rfl ?_
      replace hf := gI_e hf
      obtain ⟨w306, fs307, i305, hh308, hk309, hf⟩ := hf
      refine v_getfN (T := TX5) (ci := 5) 3 dX1_opens_106 q698 rfl in_X5 (Nat.le_of_ble_eq_true rfl) (Or.inl rfl) hh308 hk309 ?_
      obtain ⟨a310, rfl⟩ := aI_s hf
      replace hf := aI_e hf
      obtain ⟨w311, N312, f313, hh314, hi315, i316, ei316, hf⟩ := hf
      refine v_iald dX1_opens_109 hh314 hi315 ?_
      rw [← ei316]
      exact v_iret dX1_opens_110 rfl ⟨_, rfl, hf⟩
abbrev Y_X1_wayAgain : Yt := (yX1_wayAgain, some (.int), 5, 131, [])
def g_X1_wayAgain_0 (G : Gt) (E : Ev) (h : Hp) (k n : Nat) (a0 : Nat) (i_1 : Int32) (i_2 : Int32) (i_3 : Int32) (K : Int32 → Hp → Prop) : Prop :=
nA h 0 (20, .inl (fun _ => 0)) fun a1 h2 =>
V G E Y_X1_wayAgain cX1_wayAgain 8 (QM G E (kI K) xN) h2 k n 9 [(0, .ref a0), (1, .int i_1), (2, .int i_2), (3, .int i_3), (4, .ref a1), (5, .int (0 : Int32))] []
theorem s_X1_wayAgain_0 {G : Gt} {E : Ev} {h : Hp} {k0 n0 : Nat} {a0 : Nat} {i_1 : Int32} {i_2 : Int32} {i_3 : Int32} {K : Int32 → Hp → Prop} (hG : Base G) (hA : 1 ≤ k0) (hB : 20 ≤ n0) (hf : g_X1_wayAgain_0 G E h (k0 - 1) (n0 - 20) a0 i_1 i_2 i_3 K) : V G E Y_X1_wayAgain cX1_wayAgain 8 (QM G E (kI K) xN) h k0 n0 0 [(0, .ref a0), (1, .int i_1), (2, .int i_2), (3, .int i_3)] [] := by
  obtain ⟨k, hk9⟩ : ∃ z, z = k0 - 1 := ⟨_, rfl⟩
  obtain ⟨n, hn9⟩ : ∃ z, z = n0 - 20 := ⟨_, rfl⟩
  rw [← hk9, ← hn9] at hf
  refine V.weak (k' := k + 1) (n' := n + 20) ?_ (by omega) (by omega)
  unfold g_X1_wayAgain_0 at hf
  refine v_bipush (v := 20) dX1_wayAgain_0 (by decide) ?_
  refine v_newa (t := 0) (N := 20) (x := (20, .inl (fun _ => 0))) dX1_wayAgain_2 (Nat.le_of_ble_eq_true rfl) rfl q219 (fun _ => rfl) rfl (Nat.le_of_ble_eq_true rfl) (fun a1 ha1 => ?_)
  replace hf := hf a1 ha1
  obtain ⟨h2, eh2⟩ : ∃ z, z = hs h a1 (true, .inl (0, (20, .inl (fun _ => 0)))) := ⟨_, rfl⟩
  try rw [← eh2] at hf
  rw [← eh2]
  refine v_astore (i := 4) (lv' := [(0, .ref a0), (1, .int i_1), (2, .int i_2), (3, .int i_3), (4, .ref a1)]) dX1_wayAgain_4 (Nat.le_of_ble_eq_true rfl) rfl rfl ?_
  refine v_iconst (v := 0) dX1_wayAgain_6 (by decide) ?_
  refine v_istore (i := 5) (lv' := [(0, .ref a0), (1, .int i_1), (2, .int i_2), (3, .int i_3), (4, .ref a1), (5, .int (0 : Int32))]) dX1_wayAgain_7 (Nat.le_of_ble_eq_true rfl) rfl rfl ?_
  exact V.weak hf (by omega) (by omega)
def g_X1_wayAgain_9 (G : Gt) (E : Ev) (h : Hp) (k n : Nat) (a0 : Nat) (i_1 : Int32) (i_2 : Int32) (i_3 : Int32) (r_4 : Option Nat) (i_5 : Int32) (K : Int32 → Hp → Prop) : Prop :=
aL h r_4 fun i6 =>
((i6 ≤ i_5 → sI h r_4 (((2 : Int32) * i_1) + i_3) (0 : Int32) fun h12 =>
V G E Y_X1_wayAgain cX1_wayAgain 8 (QM G E (kI K) xN) h12 k n 43 [(0, .ref a0), (2, .int i_2), (4, va_rf r_4), (5, .int (1 : Int32))] []) ∧
(¬ (i6 ≤ i_5) → sI h r_4 i_5 (10000 : Int32) fun h17 =>
V G E Y_X1_wayAgain cX1_wayAgain 8 (QM G E (kI K) xN) h17 k n 9 [(0, .ref a0), (1, .int i_1), (2, .int i_2), (3, .int i_3), (4, va_rf r_4), (5, .int (i_5 + (1 : Int32)))] []))
theorem s_X1_wayAgain_9 {G : Gt} {E : Ev} {h : Hp} {k0 n0 : Nat} {a0 : Nat} {i_1 : Int32} {i_2 : Int32} {i_3 : Int32} {r_4 : Option Nat} {i_5 : Int32} {K : Int32 → Hp → Prop} (hG : Base G) (hA : 0 ≤ k0) (hB : 0 ≤ n0) (hf : g_X1_wayAgain_9 G E h (k0 - 0) (n0 - 0) a0 i_1 i_2 i_3 r_4 i_5 K) : V G E Y_X1_wayAgain cX1_wayAgain 8 (QM G E (kI K) xN) h k0 n0 9 [(0, .ref a0), (1, .int i_1), (2, .int i_2), (3, .int i_3), (4, va_rf r_4), (5, .int i_5)] [] := by
  obtain ⟨k, hk9⟩ : ∃ z, z = k0 - 0 := ⟨_, rfl⟩
  obtain ⟨n, hn9⟩ : ∃ z, z = n0 - 0 := ⟨_, rfl⟩
  rw [← hk9, ← hn9] at hf
  refine V.weak (k' := k + 0) (n' := n + 0) ?_ (by omega) (by omega)
  unfold g_X1_wayAgain_9 at hf
  refine v_iload (i := 5) dX1_wayAgain_9 rfl ?_
  refine v_qload (r := r_4) (i := 4) dX1_wayAgain_11 rfl ?_
  obtain ⟨a1, rfl⟩ := aL_s hf
  replace hf := aL_e hf
  obtain ⟨w2, t3, x4, hh5, i6, ei6, hf⟩ := hf
  refine v_alen dX1_wayAgain_13 hh5 ei6.symm ?_
  refine v_icmp_ge 31 dX1_wayAgain_14 (by decide) (fun c7 => ?_) (fun c7 => ?_)
  · replace hf := hf.1 c7
    refine v_qload (r := (some a1)) (i := 4) dX1_wayAgain_31 rfl ?_
    refine v_iconst (v := 2) dX1_wayAgain_33 (by decide) ?_
    refine v_iload_n (i := 1) dX1_wayAgain_34 rfl rfl ?_
    refine v_imul dX1_wayAgain_35 ?_
    refine v_iload_n (i := 3) dX1_wayAgain_36 rfl rfl ?_
    refine v_iadd dX1_wayAgain_37 ?_
    refine v_iconst (v := 0) dX1_wayAgain_38 (by decide) ?_
    replace hf := sI_e hf
    obtain ⟨N8, f9, hh10, hi11, hf⟩ := hf
    refine v_iast dX1_wayAgain_39 hh10 hi11 ?_
    obtain ⟨h12, eh12⟩ : ∃ z, z = hs h a1 (true, .inl (0, N8, .inl (upd f9 (((2 : Int32) * i_1) + i_3).toNatClampNeg ((0 : Int32))))) := ⟨_, rfl⟩
    try rw [← eh12] at hf
    rw [← eh12]
    refine v_iconst (v := 1) dX1_wayAgain_40 (by decide) ?_
    refine v_istore (i := 5) (lv' := [(0, .ref a0), (1, .int i_1), (2, .int i_2), (3, .int i_3), (4, va_rf (some a1)), (5, .int (1 : Int32))]) dX1_wayAgain_41 (Nat.le_of_ble_eq_true rfl) rfl rfl ?_
    refine V.lp (lv' := [(0, .ref a0), (2, .int i_2), (4, va_rf (some a1)), (5, .int (1 : Int32))]) [0, 2, 4, 5] rfl ?_
    exact V.weak hf (by omega) (by omega)
  · replace hf := hf.2 c7
    refine v_qload (r := (some a1)) (i := 4) dX1_wayAgain_17 rfl ?_
    refine v_iload (i := 5) dX1_wayAgain_19 rfl ?_
    refine v_sipush (v := 10000) dX1_wayAgain_21 (by decide) ?_
    replace hf := sI_e hf
    obtain ⟨N13, f14, hh15, hi16, hf⟩ := hf
    refine v_iast dX1_wayAgain_24 hh15 hi16 ?_
    obtain ⟨h17, eh17⟩ : ∃ z, z = hs h a1 (true, .inl (0, N13, .inl (upd f14 (i_5).toNatClampNeg ((10000 : Int32))))) := ⟨_, rfl⟩
    try rw [← eh17] at hf
    rw [← eh17]
    refine v_iinc (i := 5) (v := i_5 + (1 : Int32)) (lv' := [(0, .ref a0), (1, .int i_1), (2, .int i_2), (3, .int i_3), (4, va_rf (some a1)), (5, .int (i_5 + (1 : Int32)))]) dX1_wayAgain_25 rfl rfl (Nat.le_of_ble_eq_true rfl) rfl rfl ?_
    refine v_goto 9 dX1_wayAgain_28 (by decide) ?_
    exact V.weak hf (by omega) (by omega)
def g_X1_wayAgain_43 (G : Gt) (E : Ev) (h : Hp) (k n : Nat) (a0 : Nat) (i_2 : Int32) (r_4 : Option Nat) (i_5 : Int32) (K : Int32 → Hp → Prop) : Prop :=
((i_5 = 0 → aI h r_4 0 ((2 : Int32) * i_2) fun i8 =>
aI h r_4 0 (((2 : Int32) * i_2) + (1 : Int32)) fun i14 =>
f_J10_min G h i8 i14 (fun i16 h15 =>
((¬ (i16 = (10000 : Int32)) → K i16 h15) ∧
(i16 = (10000 : Int32) → K (-1015 : Int32) h15)))) ∧
(¬ (i_5 = 0) → rv h (some a0) 1 (dI G Y_X1_waits cX1_waits 4 [va_rf (some a0), va_rf r_4] h k n (fun i22 h21 k25 n26 =>
gR h21 (some a0) 1 1 fun r27 =>
rv h21 r27 10 (f_J2_iterator G h21 r27 (fun r37 h36 =>
V G E Y_X1_wayAgain cX1_wayAgain 8 (QM G E (kI K) xN) h36 k25 n26 65 [(0, .ref a0), (2, .int i_2), (4, va_rf r_4), (5, .int i22), (6, va_rf r37)] []))) xN)))
theorem s_X1_wayAgain_43 {G : Gt} {E : Ev} {h : Hp} {k0 n0 : Nat} {a0 : Nat} {i_2 : Int32} {r_4 : Option Nat} {i_5 : Int32} {K : Int32 → Hp → Prop} (hG : Base G) (hA : 1 ≤ k0) (hB : 4 ≤ n0) (hf : g_X1_wayAgain_43 G E h (k0 - 1) (n0 - 4) a0 i_2 r_4 i_5 K) : V G E Y_X1_wayAgain cX1_wayAgain 8 (QM G E (kI K) xN) h k0 n0 43 [(0, .ref a0), (2, .int i_2), (4, va_rf r_4), (5, .int i_5)] [] := by
  obtain ⟨k, hk9⟩ : ∃ z, z = k0 - 1 := ⟨_, rfl⟩
  obtain ⟨n, hn9⟩ : ∃ z, z = n0 - 4 := ⟨_, rfl⟩
  rw [← hk9, ← hn9] at hf
  refine V.weak (k' := k + 1) (n' := n + 4) ?_ (by omega) (by omega)
  unfold g_X1_wayAgain_43 at hf
  refine v_iload (i := 5) dX1_wayAgain_43 rfl ?_
  refine v_if_eq 125 dX1_wayAgain_45 (by decide) (fun c1 => ?_) (fun c1 => ?_)
  · replace hf := hf.1 c1
    refine v_qload (r := r_4) (i := 4) dX1_wayAgain_125 rfl ?_
    refine v_iconst (v := 2) dX1_wayAgain_127 (by decide) ?_
    refine v_iload_n (i := 2) dX1_wayAgain_128 rfl rfl ?_
    refine v_imul dX1_wayAgain_129 ?_
    obtain ⟨a2, rfl⟩ := aI_s hf
    replace hf := aI_e hf
    obtain ⟨w3, N4, f5, hh6, hi7, i8, ei8, hf⟩ := hf
    refine v_iald dX1_wayAgain_130 hh6 hi7 ?_
    rw [← ei8]
    refine v_qload (r := (some a2)) (i := 4) dX1_wayAgain_131 rfl ?_
    refine v_iconst (v := 2) dX1_wayAgain_133 (by decide) ?_
    refine v_iload_n (i := 2) dX1_wayAgain_134 rfl rfl ?_
    refine v_imul dX1_wayAgain_135 ?_
    refine v_iconst (v := 1) dX1_wayAgain_136 (by decide) ?_
    refine v_iadd dX1_wayAgain_137 ?_
    replace hf := aI_e hf
    obtain ⟨w9, N10, f11, hh12, hi13, i14, ei14, hf⟩ := hf
    refine v_iald dX1_wayAgain_138 hh12 hi13 ?_
    rw [← ei14]
    refine V.addK0 ?_
    refine V.addN0 ?_
    refine v_callS (mc := 0) (ms := 0) 2 dX1_wayAgain_139 (m_J10_min hG hf) rfl (lw_S q1661 q493 q102 q494) rfl (by decide +kernel) (by decide) rfl (cat_len (Nat.le_of_ble_eq_true rfl)) (kk_I fun i16 h15 hg => ?_) (fun _ _ _ hx => hx.elim)
    replace hf := hg
    clear hg
    refine v_istore (i := 6) (lv' := [(0, .ref a0), (2, .int i_2), (4, va_rf (some a2)), (5, .int i_5), (6, .int i16)]) dX1_wayAgain_142 (Nat.le_of_ble_eq_true rfl) rfl rfl ?_
    refine v_iload (i := 6) dX1_wayAgain_144 rfl ?_
    refine v_sipush (v := 10000) dX1_wayAgain_146 (by decide) ?_
    refine v_icmp_ne 158 dX1_wayAgain_149 (by decide) (fun c17 => ?_) (fun c17 => ?_)
    · replace hf := hf.1 c17
      refine v_iload (i := 6) dX1_wayAgain_158 rfl ?_
      exact v_iret dX1_wayAgain_160 rfl ⟨_, rfl, hf⟩
    · replace hf := hf.2 c17
      refine v_sipush (v := -1015) dX1_wayAgain_152 (by decide) ?_
      refine v_goto 160 dX1_wayAgain_155 (by decide) ?_
      exact v_iret dX1_wayAgain_160 rfl ⟨_, rfl, hf⟩
  · replace hf := hf.2 c1
    refine v_aload_n (i := 0) dX1_wayAgain_48 rfl rfl ?_
    refine v_qload (r := r_4) (i := 4) dX1_wayAgain_49 rfl ?_
    replace hf := rv_e hf
    obtain ⟨w18, fs19, hh20, hf⟩ := hf
    obtain ⟨mc23, ms24, hkmc23, hnms24, hM⟩ := hf
    refine V.weak (k' := ((k - mc23) + 1) + mc23) (n' := ((n - ms24) + 4) + ms24) ?_ (by omega) (by omega)
    refine v_callV 1 dX1_wayAgain_51 hM rfl hh20 rfl (lw_V q1775 q1777 qs27 q89 q1778) rfl (by decide +kernel) (by decide) rfl (cat_len (Nat.le_of_ble_eq_true rfl)) (kk_I fun i22 h21 hg => ?_) (fun _ _ _ hx => hx.elim)
    have hf := hg
    clear hg
    refine v_istore (i := 5) (lv' := [(0, .ref a0), (2, .int i_2), (4, va_rf r_4), (5, .int i22)]) dX1_wayAgain_54 (Nat.le_of_ble_eq_true rfl) rfl rfl ?_
    refine v_aload_n (i := 0) dX1_wayAgain_56 rfl rfl ?_
    replace hf := gR_e hf
    obtain ⟨w28, fs29, r27, hh30, hk31, hf⟩ := hf
    refine v_getf (T := TX1) (ci := 1) 1 dX1_wayAgain_57 q190 rfl in_X1 (Nat.le_of_ble_eq_true rfl) (Or.inl rfl) hh30 hk31 ?_
    obtain ⟨a32, rfl⟩ := rv_s hf
    replace hf := rv_e hf
    obtain ⟨w33, fs34, hh35, hf⟩ := hf
    refine v_callV (mc := 1) (ms := 4) 0 dX1_wayAgain_60 (m_J2_iterator hG hf) rfl hh35 rfl (lw_V q315 q316 q317 q92 q318) rfl (by decide +kernel) (by decide) rfl (cat_len (Nat.le_of_ble_eq_true rfl)) (kk_R fun r37 h36 hg => ?_) (fun _ _ _ hx => hx.elim)
    replace hf := hg
    clear hg
    refine v_qstore (i := 6) (r := r37) (lv' := [(0, .ref a0), (2, .int i_2), (4, va_rf r_4), (5, .int i22), (6, va_rf r37)]) dX1_wayAgain_63 (Nat.le_of_ble_eq_true rfl) rfl rfl ?_
    exact V.weak hf (by omega) (by omega)
def g_X1_wayAgain_65 (G : Gt) (E : Ev) (h : Hp) (k n : Nat) (a0 : Nat) (i_2 : Int32) (r_4 : Option Nat) (i_5 : Int32) (r_6 : Option Nat) (K : Int32 → Hp → Prop) : Prop :=
rv h r_6 11 (f_J8_hasNext G h r_6 (fun i6 h5 =>
((i6 = 0 → V G E Y_X1_wayAgain cX1_wayAgain 8 (QM G E (kI K) xN) h5 k n 43 [(0, .ref a0), (2, .int i_2), (4, va_rf r_4), (5, .int i_5)] []) ∧
(¬ (i6 = 0) → rv h5 r_6 11 (f_J8_next G h5 r_6 (fun r12 h11 =>
(oc h11 r12 5 ∧ gI h11 r12 5 0 fun i13 =>
rv h11 (some a0) 1 (dI G Y_X1_lowers cX1_lowers 8 [va_rf (some a0), va_rf r_4, va_rf r12, .int i13] h11 k n (fun i23 h22 k26 n27 =>
gI h22 r12 5 1 fun i28 =>
rv h22 (some a0) 1 (dI G Y_X1_lowers cX1_lowers 8 [va_rf (some a0), va_rf r_4, va_rf r12, .int i28] h22 k26 n27 (fun i37 h36 k40 n41 =>
V G E Y_X1_wayAgain cX1_wayAgain 8 (QM G E (kI K) xN) h36 k40 n41 65 [(0, .ref a0), (2, .int i_2), (4, va_rf r_4), (5, .int (i_5 ||| (i23 ||| i37))), (6, va_rf r_6)] []) xN)) xN))))))))
theorem s_X1_wayAgain_65 {G : Gt} {E : Ev} {h : Hp} {k0 n0 : Nat} {a0 : Nat} {i_2 : Int32} {r_4 : Option Nat} {i_5 : Int32} {r_6 : Option Nat} {K : Int32 → Hp → Prop} (hG : Base G) (hA : 0 ≤ k0) (hB : 0 ≤ n0) (hf : g_X1_wayAgain_65 G E h (k0 - 0) (n0 - 0) a0 i_2 r_4 i_5 r_6 K) : V G E Y_X1_wayAgain cX1_wayAgain 8 (QM G E (kI K) xN) h k0 n0 65 [(0, .ref a0), (2, .int i_2), (4, va_rf r_4), (5, .int i_5), (6, va_rf r_6)] [] := by
  obtain ⟨k, hk9⟩ : ∃ z, z = k0 - 0 := ⟨_, rfl⟩
  obtain ⟨n, hn9⟩ : ∃ z, z = n0 - 0 := ⟨_, rfl⟩
  rw [← hk9, ← hn9] at hf
  refine V.weak (k' := k + 0) (n' := n + 0) ?_ (by omega) (by omega)
  unfold g_X1_wayAgain_65 at hf
  refine v_qload (r := r_6) (i := 6) dX1_wayAgain_65 rfl ?_
  obtain ⟨a1, rfl⟩ := rv_s hf
  replace hf := rv_e hf
  obtain ⟨w2, fs3, hh4, hf⟩ := hf
  refine V.addK0 ?_
  refine V.addN0 ?_
  refine v_callF (mc := 0) (ms := 0) 0 dX1_wayAgain_67 (m_J8_hasNext hG hf) rfl hh4 rfl (lw_F q339 q343 q345 q99 q347) (fun C9 => v_Fw C9 (by decide) q341 q340 q346 q344 q342) rfl (by decide +kernel) (by decide) rfl (cat_len (Nat.le_of_ble_eq_true rfl)) (kk_I fun i6 h5 hg => ?_) (fun _ _ _ hx => hx.elim)
  replace hf := hg
  clear hg
  refine v_if_eq 122 dX1_wayAgain_72 (by decide) (fun c7 => ?_) (fun c7 => ?_)
  · replace hf := hf.1 c7
    refine v_goto 43 dX1_wayAgain_122 (by decide) ?_
    refine V.lp (lv' := [(0, .ref a0), (2, .int i_2), (4, va_rf r_4), (5, .int i_5)]) [0, 1, 2, 3] rfl ?_
    exact V.weak hf (by omega) (by omega)
  · replace hf := hf.2 c7
    refine v_qload (r := (some a1)) (i := 6) dX1_wayAgain_75 rfl ?_
    replace hf := rv_e hf
    obtain ⟨w8, fs9, hh10, hf⟩ := hf
    refine V.addK0 ?_
    refine V.addN0 ?_
    refine v_callF (mc := 0) (ms := 0) 0 dX1_wayAgain_77 (m_J8_next hG hf) rfl hh10 rfl (lw_F q361 q364 q366 q99 q368) (fun C9 => v_Fw C9 (by decide) q363 q362 q367 q365 q342) rfl (by decide +kernel) (by decide) rfl (cat_len (Nat.le_of_ble_eq_true rfl)) (kk_R fun r12 h11 hg => ?_) (fun _ _ _ hx => hx.elim)
    replace hf := hg
    clear hg
    obtain ⟨hoc, hf⟩ := hf
    refine v_castQS (r := r12) dX1_wayAgain_82 q499 hoc rfl ?_
    refine v_qstore (i := 7) (r := r12) (lv' := [(0, .ref a0), (2, .int i_2), (4, va_rf r_4), (5, .int i_5), (6, va_rf (some a1)), (7, va_rf r12)]) dX1_wayAgain_85 (Nat.le_of_ble_eq_true rfl) rfl rfl ?_
    refine v_iload (i := 5) dX1_wayAgain_87 rfl ?_
    refine v_aload_n (i := 0) dX1_wayAgain_89 rfl rfl ?_
    refine v_qload (r := r_4) (i := 4) dX1_wayAgain_90 rfl ?_
    refine v_qload (r := r12) (i := 7) dX1_wayAgain_92 rfl ?_
    refine v_qload (r := r12) (i := 7) dX1_wayAgain_94 rfl ?_
    obtain ⟨a14, rfl⟩ := gI_s hf
    replace hf := gI_e hf
    obtain ⟨w15, fs16, i13, hh17, hk18, hf⟩ := hf
    refine v_getfN (T := TX5) (ci := 5) 0 dX1_wayAgain_96 q693 rfl in_X5 (Nat.le_of_ble_eq_true rfl) (Or.inl rfl) hh17 hk18 ?_
    replace hf := rv_e hf
    obtain ⟨w19, fs20, hh21, hf⟩ := hf
    obtain ⟨mc24, ms25, hkmc24, hnms25, hM⟩ := hf
    refine V.weak (k' := ((k - mc24) + 0) + mc24) (n' := ((n - ms25) + 0) + ms25) ?_ (by omega) (by omega)
    refine v_callV 3 dX1_wayAgain_99 hM rfl hh21 rfl (lw_V q1782 q1784 qs28 q89 q1785) rfl (by decide +kernel) (by decide) rfl (cat_len (Nat.le_of_ble_eq_true rfl)) (kk_I fun i23 h22 hg => ?_) (fun _ _ _ hx => hx.elim)
    have hf := hg
    clear hg
    refine v_aload_n (i := 0) dX1_wayAgain_102 rfl rfl ?_
    refine v_qload (r := r_4) (i := 4) dX1_wayAgain_103 rfl ?_
    refine v_qload (r := (some a14)) (i := 7) dX1_wayAgain_105 rfl ?_
    refine v_qload (r := (some a14)) (i := 7) dX1_wayAgain_107 rfl ?_
    replace hf := gI_e hf
    obtain ⟨w29, fs30, i28, hh31, hk32, hf⟩ := hf
    refine v_getfN (T := TX5) (ci := 5) 1 dX1_wayAgain_109 q695 rfl in_X5 (Nat.le_of_ble_eq_true rfl) (Or.inl rfl) hh31 hk32 ?_
    replace hf := rv_e hf
    obtain ⟨w33, fs34, hh35, hf⟩ := hf
    obtain ⟨mc38, ms39, hkmc38, hnms39, hM⟩ := hf
    refine V.weak (k' := (((k - mc24) - mc38) + 0) + mc38) (n' := (((n - ms25) - ms39) + 0) + ms39) ?_ (by omega) (by omega)
    refine v_callV 3 dX1_wayAgain_112 hM rfl hh35 rfl (lw_V q1782 q1784 qs28 q89 q1785) rfl (by decide +kernel) (by decide) rfl (cat_len (Nat.le_of_ble_eq_true rfl)) (kk_I fun i37 h36 hg => ?_) (fun _ _ _ hx => hx.elim)
    have hf := hg
    clear hg
    refine v_ior dX1_wayAgain_115 ?_
    refine v_ior dX1_wayAgain_116 ?_
    refine v_istore (i := 5) (lv' := [(0, .ref a0), (2, .int i_2), (4, va_rf r_4), (5, .int (i_5 ||| (i23 ||| i37))), (6, va_rf (some a1)), (7, va_rf (some a14))]) dX1_wayAgain_117 (Nat.le_of_ble_eq_true rfl) rfl rfl ?_
    refine v_goto 65 dX1_wayAgain_119 (by decide) ?_
    refine V.lp (lv' := [(0, .ref a0), (2, .int i_2), (4, va_rf r_4), (5, .int (i_5 ||| (i23 ||| i37))), (6, va_rf (some a1))]) [0, 1, 2, 3, 4] rfl ?_
    exact V.weak hf (by omega) (by omega)
theorem b_X1_wayAgain {G : Gt} {h : Hp} {mc ms : Nat} {a0 : Nat} {i_1 : Int32} {i_2 : Int32} {i_3 : Int32} {K : Int32 → Hp → Prop} (hG : Base G) (hf : ∀ E : Ev, V G E Y_X1_wayAgain cX1_wayAgain 8 (QM G E (kI K) xN) h mc ms 0 [(0, .ref a0), (1, .int i_1), (2, .int i_2), (3, .int i_3)] []) : MM G Y_X1_wayAgain cX1_wayAgain 8 mc ms [.ref a0, .int i_1, .int i_2, .int i_3] h (kI K) xN := mm_of hG (by decide +kernel) rfl (ac_c rfl (ac_c rfl (ac_c rfl (ac_c rfl ac_nil)))) (Nat.le_of_ble_eq_true rfl) (fun E _ _ => hf E)
abbrev Y_X1_leftTo : Yt := (yX1_leftTo, some (.array (.int)), 5, 131, [])
def g_X1_leftTo_0 (G : Gt) (E : Ev) (h : Hp) (k n : Nat) (a0 : Nat) (i_1 : Int32) (K : Option Nat → Hp → Prop) : Prop :=
nA h 0 (20, .inl (fun _ => 0)) fun a1 h2 =>
V G E Y_X1_leftTo cX1_leftTo 6 (QM G E (kR K) xN) h2 k n 7 [(0, .ref a0), (1, .int i_1), (2, .ref a1), (3, .int (0 : Int32))] []
theorem s_X1_leftTo_0 {G : Gt} {E : Ev} {h : Hp} {k0 n0 : Nat} {a0 : Nat} {i_1 : Int32} {K : Option Nat → Hp → Prop} (hG : Base G) (hA : 1 ≤ k0) (hB : 20 ≤ n0) (hf : g_X1_leftTo_0 G E h (k0 - 1) (n0 - 20) a0 i_1 K) : V G E Y_X1_leftTo cX1_leftTo 6 (QM G E (kR K) xN) h k0 n0 0 [(0, .ref a0), (1, .int i_1)] [] := by
  obtain ⟨k, hk9⟩ : ∃ z, z = k0 - 1 := ⟨_, rfl⟩
  obtain ⟨n, hn9⟩ : ∃ z, z = n0 - 20 := ⟨_, rfl⟩
  rw [← hk9, ← hn9] at hf
  refine V.weak (k' := k + 1) (n' := n + 20) ?_ (by omega) (by omega)
  unfold g_X1_leftTo_0 at hf
  refine v_bipush (v := 20) dX1_leftTo_0 (by decide) ?_
  refine v_newa (t := 0) (N := 20) (x := (20, .inl (fun _ => 0))) dX1_leftTo_2 (Nat.le_of_ble_eq_true rfl) rfl q219 (fun _ => rfl) rfl (Nat.le_of_ble_eq_true rfl) (fun a1 ha1 => ?_)
  replace hf := hf a1 ha1
  obtain ⟨h2, eh2⟩ : ∃ z, z = hs h a1 (true, .inl (0, (20, .inl (fun _ => 0)))) := ⟨_, rfl⟩
  try rw [← eh2] at hf
  rw [← eh2]
  refine v_astore_n (i := 2) (lv' := [(0, .ref a0), (1, .int i_1), (2, .ref a1)]) dX1_leftTo_4 rfl (Nat.le_of_ble_eq_true rfl) rfl rfl ?_
  refine v_iconst (v := 0) dX1_leftTo_5 (by decide) ?_
  refine v_istore_n (i := 3) (lv' := [(0, .ref a0), (1, .int i_1), (2, .ref a1), (3, .int (0 : Int32))]) dX1_leftTo_6 rfl (Nat.le_of_ble_eq_true rfl) rfl rfl ?_
  exact V.weak hf (by omega) (by omega)
def g_X1_leftTo_7 (G : Gt) (E : Ev) (h : Hp) (k n : Nat) (a0 : Nat) (i_1 : Int32) (r_2 : Option Nat) (i_3 : Int32) (K : Option Nat → Hp → Prop) : Prop :=
aL h r_2 fun i6 =>
((i6 ≤ i_3 → V G E Y_X1_leftTo cX1_leftTo 6 (QM G E (kR K) xN) h k n 38 [(0, .ref a0), (2, va_rf r_2), (3, .int (1 : Int32))] []) ∧
(¬ (i6 ≤ i_3) → ((¬ (i_3 / (2 : Int32) = i_1) → sI h r_2 i_3 (10000 : Int32) fun h13 =>
V G E Y_X1_leftTo cX1_leftTo 6 (QM G E (kR K) xN) h13 k n 7 [(0, .ref a0), (1, .int i_1), (2, va_rf r_2), (3, .int (i_3 + (1 : Int32)))] []) ∧
(i_3 / (2 : Int32) = i_1 → sI h r_2 i_3 (0 : Int32) fun h18 =>
V G E Y_X1_leftTo cX1_leftTo 6 (QM G E (kR K) xN) h18 k n 7 [(0, .ref a0), (1, .int i_1), (2, va_rf r_2), (3, .int (i_3 + (1 : Int32)))] []))))
theorem s_X1_leftTo_7 {G : Gt} {E : Ev} {h : Hp} {k0 n0 : Nat} {a0 : Nat} {i_1 : Int32} {r_2 : Option Nat} {i_3 : Int32} {K : Option Nat → Hp → Prop} (hG : Base G) (hA : 0 ≤ k0) (hB : 0 ≤ n0) (hf : g_X1_leftTo_7 G E h (k0 - 0) (n0 - 0) a0 i_1 r_2 i_3 K) : V G E Y_X1_leftTo cX1_leftTo 6 (QM G E (kR K) xN) h k0 n0 7 [(0, .ref a0), (1, .int i_1), (2, va_rf r_2), (3, .int i_3)] [] := by
  obtain ⟨k, hk9⟩ : ∃ z, z = k0 - 0 := ⟨_, rfl⟩
  obtain ⟨n, hn9⟩ : ∃ z, z = n0 - 0 := ⟨_, rfl⟩
  rw [← hk9, ← hn9] at hf
  refine V.weak (k' := k + 0) (n' := n + 0) ?_ (by omega) (by omega)
  unfold g_X1_leftTo_7 at hf
  refine v_iload_n (i := 3) dX1_leftTo_7 rfl rfl ?_
  refine v_qload_n (r := r_2) (i := 2) dX1_leftTo_8 rfl rfl ?_
  obtain ⟨a1, rfl⟩ := aL_s hf
  replace hf := aL_e hf
  obtain ⟨w2, t3, x4, hh5, i6, ei6, hf⟩ := hf
  refine v_alen dX1_leftTo_9 hh5 ei6.symm ?_
  refine v_icmp_ge 36 dX1_leftTo_10 (by decide) (fun c7 => ?_) (fun c7 => ?_)
  · replace hf := hf.1 c7
    refine v_iconst (v := 1) dX1_leftTo_36 (by decide) ?_
    refine v_istore_n (i := 3) (lv' := [(0, .ref a0), (1, .int i_1), (2, va_rf (some a1)), (3, .int (1 : Int32))]) dX1_leftTo_37 rfl (Nat.le_of_ble_eq_true rfl) rfl rfl ?_
    refine V.lp (lv' := [(0, .ref a0), (2, va_rf (some a1)), (3, .int (1 : Int32))]) [0, 2, 3] rfl ?_
    exact V.weak hf (by omega) (by omega)
  · replace hf := hf.2 c7
    refine v_qload_n (r := (some a1)) (i := 2) dX1_leftTo_13 rfl rfl ?_
    refine v_iload_n (i := 3) dX1_leftTo_14 rfl rfl ?_
    refine v_iload_n (i := 3) dX1_leftTo_15 rfl rfl ?_
    refine v_iconst (v := 2) dX1_leftTo_16 (by decide) ?_
    refine v_idiv dX1_leftTo_17 (by decide) ?_
    refine v_iload_n (i := 1) dX1_leftTo_18 rfl rfl ?_
    refine v_icmp_ne 26 dX1_leftTo_19 (by decide) (fun c8 => ?_) (fun c8 => ?_)
    · replace hf := hf.1 c8
      refine v_sipush (v := 10000) dX1_leftTo_26 (by decide) ?_
      replace hf := sI_e hf
      obtain ⟨N9, f10, hh11, hi12, hf⟩ := hf
      refine v_iast dX1_leftTo_29 hh11 hi12 ?_
      obtain ⟨h13, eh13⟩ : ∃ z, z = hs h a1 (true, .inl (0, N9, .inl (upd f10 (i_3).toNatClampNeg ((10000 : Int32))))) := ⟨_, rfl⟩
      try rw [← eh13] at hf
      rw [← eh13]
      refine v_iinc (i := 3) (v := i_3 + (1 : Int32)) (lv' := [(0, .ref a0), (1, .int i_1), (2, va_rf (some a1)), (3, .int (i_3 + (1 : Int32)))]) dX1_leftTo_30 rfl rfl (Nat.le_of_ble_eq_true rfl) rfl rfl ?_
      refine v_goto 7 dX1_leftTo_33 (by decide) ?_
      exact V.weak hf (by omega) (by omega)
    · replace hf := hf.2 c8
      refine v_iconst (v := 0) dX1_leftTo_22 (by decide) ?_
      refine v_goto 29 dX1_leftTo_23 (by decide) ?_
      replace hf := sI_e hf
      obtain ⟨N14, f15, hh16, hi17, hf⟩ := hf
      refine v_iast dX1_leftTo_29 hh16 hi17 ?_
      obtain ⟨h18, eh18⟩ : ∃ z, z = hs h a1 (true, .inl (0, N14, .inl (upd f15 (i_3).toNatClampNeg ((0 : Int32))))) := ⟨_, rfl⟩
      try rw [← eh18] at hf
      rw [← eh18]
      refine v_iinc (i := 3) (v := i_3 + (1 : Int32)) (lv' := [(0, .ref a0), (1, .int i_1), (2, va_rf (some a1)), (3, .int (i_3 + (1 : Int32)))]) dX1_leftTo_30 rfl rfl (Nat.le_of_ble_eq_true rfl) rfl rfl ?_
      refine v_goto 7 dX1_leftTo_33 (by decide) ?_
      exact V.weak hf (by omega) (by omega)
def g_X1_leftTo_38 (G : Gt) (E : Ev) (h : Hp) (k n : Nat) (a0 : Nat) (r_2 : Option Nat) (i_3 : Int32) (K : Option Nat → Hp → Prop) : Prop :=
((i_3 = 0 → K r_2 h) ∧
(¬ (i_3 = 0) → rv h (some a0) 1 (dI G Y_X1_waits cX1_waits 4 [va_rf (some a0), va_rf r_2] h k n (fun i6 h5 k9 n10 =>
gR h5 (some a0) 1 1 fun r11 =>
rv h5 r11 10 (f_J2_iterator G h5 r11 (fun r21 h20 =>
V G E Y_X1_leftTo cX1_leftTo 6 (QM G E (kR K) xN) h20 k9 n10 57 [(0, .ref a0), (2, va_rf r_2), (3, .int i6), (4, va_rf r21)] []))) xN)))
theorem s_X1_leftTo_38 {G : Gt} {E : Ev} {h : Hp} {k0 n0 : Nat} {a0 : Nat} {r_2 : Option Nat} {i_3 : Int32} {K : Option Nat → Hp → Prop} (hG : Base G) (hA : 1 ≤ k0) (hB : 4 ≤ n0) (hf : g_X1_leftTo_38 G E h (k0 - 1) (n0 - 4) a0 r_2 i_3 K) : V G E Y_X1_leftTo cX1_leftTo 6 (QM G E (kR K) xN) h k0 n0 38 [(0, .ref a0), (2, va_rf r_2), (3, .int i_3)] [] := by
  obtain ⟨k, hk9⟩ : ∃ z, z = k0 - 1 := ⟨_, rfl⟩
  obtain ⟨n, hn9⟩ : ∃ z, z = n0 - 4 := ⟨_, rfl⟩
  rw [← hk9, ← hn9] at hf
  refine V.weak (k' := k + 1) (n' := n + 4) ?_ (by omega) (by omega)
  unfold g_X1_leftTo_38 at hf
  refine v_iload_n (i := 3) dX1_leftTo_38 rfl rfl ?_
  refine v_if_eq 113 dX1_leftTo_39 (by decide) (fun c1 => ?_) (fun c1 => ?_)
  · replace hf := hf.1 c1
    refine v_qload_n (r := r_2) (i := 2) dX1_leftTo_113 rfl rfl ?_
    exact v_qret (r := r_2) dX1_leftTo_114 rfl (Or.inr ⟨_, rfl⟩) ⟨_, rfl, hf⟩
  · replace hf := hf.2 c1
    refine v_aload_n (i := 0) dX1_leftTo_42 rfl rfl ?_
    refine v_qload_n (r := r_2) (i := 2) dX1_leftTo_43 rfl rfl ?_
    replace hf := rv_e hf
    obtain ⟨w2, fs3, hh4, hf⟩ := hf
    obtain ⟨mc7, ms8, hkmc7, hnms8, hM⟩ := hf
    refine V.weak (k' := ((k - mc7) + 1) + mc7) (n' := ((n - ms8) + 4) + ms8) ?_ (by omega) (by omega)
    refine v_callV 1 dX1_leftTo_44 hM rfl hh4 rfl (lw_V q1775 q1777 qs27 q89 q1778) rfl (by decide +kernel) (by decide) rfl (cat_len (Nat.le_of_ble_eq_true rfl)) (kk_I fun i6 h5 hg => ?_) (fun _ _ _ hx => hx.elim)
    have hf := hg
    clear hg
    refine v_istore_n (i := 3) (lv' := [(0, .ref a0), (2, va_rf r_2), (3, .int i6)]) dX1_leftTo_47 rfl (Nat.le_of_ble_eq_true rfl) rfl rfl ?_
    refine v_aload_n (i := 0) dX1_leftTo_48 rfl rfl ?_
    replace hf := gR_e hf
    obtain ⟨w12, fs13, r11, hh14, hk15, hf⟩ := hf
    refine v_getf (T := TX1) (ci := 1) 1 dX1_leftTo_49 q190 rfl in_X1 (Nat.le_of_ble_eq_true rfl) (Or.inl rfl) hh14 hk15 ?_
    obtain ⟨a16, rfl⟩ := rv_s hf
    replace hf := rv_e hf
    obtain ⟨w17, fs18, hh19, hf⟩ := hf
    refine v_callV (mc := 1) (ms := 4) 0 dX1_leftTo_52 (m_J2_iterator hG hf) rfl hh19 rfl (lw_V q315 q316 q317 q92 q318) rfl (by decide +kernel) (by decide) rfl (cat_len (Nat.le_of_ble_eq_true rfl)) (kk_R fun r21 h20 hg => ?_) (fun _ _ _ hx => hx.elim)
    replace hf := hg
    clear hg
    refine v_qstore (i := 4) (r := r21) (lv' := [(0, .ref a0), (2, va_rf r_2), (3, .int i6), (4, va_rf r21)]) dX1_leftTo_55 (Nat.le_of_ble_eq_true rfl) rfl rfl ?_
    exact V.weak hf (by omega) (by omega)
def g_X1_leftTo_57 (G : Gt) (E : Ev) (h : Hp) (k n : Nat) (a0 : Nat) (r_2 : Option Nat) (i_3 : Int32) (r_4 : Option Nat) (K : Option Nat → Hp → Prop) : Prop :=
rv h r_4 11 (f_J8_hasNext G h r_4 (fun i6 h5 =>
((i6 = 0 → V G E Y_X1_leftTo cX1_leftTo 6 (QM G E (kR K) xN) h5 k n 38 [(0, .ref a0), (2, va_rf r_2), (3, .int i_3)] []) ∧
(¬ (i6 = 0) → rv h5 r_4 11 (f_J8_next G h5 r_4 (fun r12 h11 =>
(oc h11 r12 5 ∧ gI h11 r12 5 0 fun i13 =>
rv h11 (some a0) 1 (dI G Y_X1_comesBack cX1_comesBack 8 [va_rf (some a0), va_rf r_2, va_rf r12, .int i13] h11 k n (fun i23 h22 k26 n27 =>
gI h22 r12 5 1 fun i28 =>
rv h22 (some a0) 1 (dI G Y_X1_comesBack cX1_comesBack 8 [va_rf (some a0), va_rf r_2, va_rf r12, .int i28] h22 k26 n27 (fun i37 h36 k40 n41 =>
V G E Y_X1_leftTo cX1_leftTo 6 (QM G E (kR K) xN) h36 k40 n41 57 [(0, .ref a0), (2, va_rf r_2), (3, .int (i_3 ||| (i23 ||| i37))), (4, va_rf r_4)] []) xN)) xN))))))))
theorem s_X1_leftTo_57 {G : Gt} {E : Ev} {h : Hp} {k0 n0 : Nat} {a0 : Nat} {r_2 : Option Nat} {i_3 : Int32} {r_4 : Option Nat} {K : Option Nat → Hp → Prop} (hG : Base G) (hA : 0 ≤ k0) (hB : 0 ≤ n0) (hf : g_X1_leftTo_57 G E h (k0 - 0) (n0 - 0) a0 r_2 i_3 r_4 K) : V G E Y_X1_leftTo cX1_leftTo 6 (QM G E (kR K) xN) h k0 n0 57 [(0, .ref a0), (2, va_rf r_2), (3, .int i_3), (4, va_rf r_4)] [] := by
  obtain ⟨k, hk9⟩ : ∃ z, z = k0 - 0 := ⟨_, rfl⟩
  obtain ⟨n, hn9⟩ : ∃ z, z = n0 - 0 := ⟨_, rfl⟩
  rw [← hk9, ← hn9] at hf
  refine V.weak (k' := k + 0) (n' := n + 0) ?_ (by omega) (by omega)
  unfold g_X1_leftTo_57 at hf
  refine v_qload (r := r_4) (i := 4) dX1_leftTo_57 rfl ?_
  obtain ⟨a1, rfl⟩ := rv_s hf
  replace hf := rv_e hf
  obtain ⟨w2, fs3, hh4, hf⟩ := hf
  refine V.addK0 ?_
  refine V.addN0 ?_
  refine v_callF (mc := 0) (ms := 0) 0 dX1_leftTo_59 (m_J8_hasNext hG hf) rfl hh4 rfl (lw_F q339 q343 q345 q99 q347) (fun C9 => v_Fw C9 (by decide) q341 q340 q346 q344 q342) rfl (by decide +kernel) (by decide) rfl (cat_len (Nat.le_of_ble_eq_true rfl)) (kk_I fun i6 h5 hg => ?_) (fun _ _ _ hx => hx.elim)
  replace hf := hg
  clear hg
  refine v_if_eq 110 dX1_leftTo_64 (by decide) (fun c7 => ?_) (fun c7 => ?_)
  · replace hf := hf.1 c7
    refine v_goto 38 dX1_leftTo_110 (by decide) ?_
    refine V.lp (lv' := [(0, .ref a0), (2, va_rf r_2), (3, .int i_3)]) [0, 1, 2] rfl ?_
    exact V.weak hf (by omega) (by omega)
  · replace hf := hf.2 c7
    refine v_qload (r := (some a1)) (i := 4) dX1_leftTo_67 rfl ?_
    replace hf := rv_e hf
    obtain ⟨w8, fs9, hh10, hf⟩ := hf
    refine V.addK0 ?_
    refine V.addN0 ?_
    refine v_callF (mc := 0) (ms := 0) 0 dX1_leftTo_69 (m_J8_next hG hf) rfl hh10 rfl (lw_F q361 q364 q366 q99 q368) (fun C9 => v_Fw C9 (by decide) q363 q362 q367 q365 q342) rfl (by decide +kernel) (by decide) rfl (cat_len (Nat.le_of_ble_eq_true rfl)) (kk_R fun r12 h11 hg => ?_) (fun _ _ _ hx => hx.elim)
    replace hf := hg
    clear hg
    obtain ⟨hoc, hf⟩ := hf
    refine v_castQS (r := r12) dX1_leftTo_74 q499 hoc rfl ?_
    refine v_qstore (i := 5) (r := r12) (lv' := [(0, .ref a0), (2, va_rf r_2), (3, .int i_3), (4, va_rf (some a1)), (5, va_rf r12)]) dX1_leftTo_77 (Nat.le_of_ble_eq_true rfl) rfl rfl ?_
    refine v_iload_n (i := 3) dX1_leftTo_79 rfl rfl ?_
    refine v_aload_n (i := 0) dX1_leftTo_80 rfl rfl ?_
    refine v_qload_n (r := r_2) (i := 2) dX1_leftTo_81 rfl rfl ?_
    refine v_qload (r := r12) (i := 5) dX1_leftTo_82 rfl ?_
    refine v_qload (r := r12) (i := 5) dX1_leftTo_84 rfl ?_
    obtain ⟨a14, rfl⟩ := gI_s hf
    replace hf := gI_e hf
    obtain ⟨w15, fs16, i13, hh17, hk18, hf⟩ := hf
    refine v_getfN (T := TX5) (ci := 5) 0 dX1_leftTo_86 q693 rfl in_X5 (Nat.le_of_ble_eq_true rfl) (Or.inl rfl) hh17 hk18 ?_
    replace hf := rv_e hf
    obtain ⟨w19, fs20, hh21, hf⟩ := hf
    obtain ⟨mc24, ms25, hkmc24, hnms25, hM⟩ := hf
    refine V.weak (k' := ((k - mc24) + 0) + mc24) (n' := ((n - ms25) + 0) + ms25) ?_ (by omega) (by omega)
    refine v_callV 3 dX1_leftTo_89 hM rfl hh21 rfl (lw_V q1798 q1800 qs30 q89 q1801) rfl (by decide +kernel) (by decide) rfl (cat_len (Nat.le_of_ble_eq_true rfl)) (kk_I fun i23 h22 hg => ?_) (fun _ _ _ hx => hx.elim)
    have hf := hg
    clear hg
    refine v_aload_n (i := 0) dX1_leftTo_92 rfl rfl ?_
    refine v_qload_n (r := r_2) (i := 2) dX1_leftTo_93 rfl rfl ?_
    refine v_qload (r := (some a14)) (i := 5) dX1_leftTo_94 rfl ?_
    refine v_qload (r := (some a14)) (i := 5) dX1_leftTo_96 rfl ?_
    replace hf := gI_e hf
    obtain ⟨w29, fs30, i28, hh31, hk32, hf⟩ := hf
    refine v_getfN (T := TX5) (ci := 5) 1 dX1_leftTo_98 q695 rfl in_X5 (Nat.le_of_ble_eq_true rfl) (Or.inl rfl) hh31 hk32 ?_
    replace hf := rv_e hf
    obtain ⟨w33, fs34, hh35, hf⟩ := hf
    obtain ⟨mc38, ms39, hkmc38, hnms39, hM⟩ := hf
    refine V.weak (k' := (((k - mc24) - mc38) + 0) + mc38) (n' := (((n - ms25) - ms39) + 0) + ms39) ?_ (by omega) (by omega)
    refine v_callV 3 dX1_leftTo_101 hM rfl hh35 rfl (lw_V q1798 q1800 qs30 q89 q1801) rfl (by decide +kernel) (by decide) rfl (cat_len (Nat.le_of_ble_eq_true rfl)) (kk_I fun i37 h36 hg => ?_) (fun _ _ _ hx => hx.elim)
    have hf := hg
    clear hg
    refine v_ior dX1_leftTo_104 ?_
    refine v_ior dX1_leftTo_105 ?_
    refine v_istore_n (i := 3) (lv' := [(0, .ref a0), (2, va_rf r_2), (3, .int (i_3 ||| (i23 ||| i37))), (4, va_rf (some a1)), (5, va_rf (some a14))]) dX1_leftTo_106 rfl (Nat.le_of_ble_eq_true rfl) rfl rfl ?_
    refine v_goto 57 dX1_leftTo_107 (by decide) ?_
    refine V.lp (lv' := [(0, .ref a0), (2, va_rf r_2), (3, .int (i_3 ||| (i23 ||| i37))), (4, va_rf (some a1))]) [0, 1, 2, 3] rfl ?_
    exact V.weak hf (by omega) (by omega)
theorem b_X1_leftTo {G : Gt} {h : Hp} {mc ms : Nat} {a0 : Nat} {i_1 : Int32} {K : Option Nat → Hp → Prop} (hG : Base G) (hf : ∀ E : Ev, V G E Y_X1_leftTo cX1_leftTo 6 (QM G E (kR K) xN) h mc ms 0 [(0, .ref a0), (1, .int i_1)] []) : MM G Y_X1_leftTo cX1_leftTo 6 mc ms [.ref a0, .int i_1] h (kR K) xN := mm_of hG (by decide +kernel) rfl (ac_c rfl (ac_c rfl ac_nil)) (Nat.le_of_ble_eq_true rfl) (fun E _ _ => hf E)
abbrev Y_X1_next : Yt := (yX1_next, some (.object "ParityMaze$Spot"), 5, 126, [])
def g_X1_next_0 (G : Gt) (E : Ev) (h : Hp) (k n : Nat) (a0 : Nat) (r_1 : Option Nat) (r_2 : Option Nat) (K : Option Nat → Hp → Prop) : Prop :=
gR h (some a0) 1 1 fun r1 =>
rv h r1 10 (f_J2_iterator G h r1 (fun r11 h10 =>
V G E Y_X1_next cX1_next 6 (QM G E (kR K) xN) h10 k n 8 [(0, .ref a0), (1, va_rf r_1), (2, va_rf r_2), (3, va_rf r11)] []))
theorem s_X1_next_0 {G : Gt} {E : Ev} {h : Hp} {k0 n0 : Nat} {a0 : Nat} {r_1 : Option Nat} {r_2 : Option Nat} {K : Option Nat → Hp → Prop} (hG : Base G) (hA : 1 ≤ k0) (hB : 4 ≤ n0) (hf : g_X1_next_0 G E h (k0 - 1) (n0 - 4) a0 r_1 r_2 K) : V G E Y_X1_next cX1_next 6 (QM G E (kR K) xN) h k0 n0 0 [(0, .ref a0), (1, va_rf r_1), (2, va_rf r_2)] [] := by
  obtain ⟨k, hk9⟩ : ∃ z, z = k0 - 1 := ⟨_, rfl⟩
  obtain ⟨n, hn9⟩ : ∃ z, z = n0 - 4 := ⟨_, rfl⟩
  rw [← hk9, ← hn9] at hf
  refine V.weak (k' := k + 1) (n' := n + 4) ?_ (by omega) (by omega)
  unfold g_X1_next_0 at hf
  refine v_aload_n (i := 0) dX1_next_0 rfl rfl ?_
  replace hf := gR_e hf
  obtain ⟨w2, fs3, r1, hh4, hk5, hf⟩ := hf
  refine v_getf (T := TX1) (ci := 1) 1 dX1_next_1 q190 rfl in_X1 (Nat.le_of_ble_eq_true rfl) (Or.inl rfl) hh4 hk5 ?_
  obtain ⟨a6, rfl⟩ := rv_s hf
  replace hf := rv_e hf
  obtain ⟨w7, fs8, hh9, hf⟩ := hf
  refine v_callV (mc := 1) (ms := 4) 0 dX1_next_4 (m_J2_iterator hG hf) rfl hh9 rfl (lw_V q315 q316 q317 q92 q318) rfl (by decide +kernel) (by decide) rfl (cat_len (Nat.le_of_ble_eq_true rfl)) (kk_R fun r11 h10 hg => ?_) (fun _ _ _ hx => hx.elim)
  replace hf := hg
  clear hg
  refine v_qstore_n (i := 3) (r := r11) (lv' := [(0, .ref a0), (1, va_rf r_1), (2, va_rf r_2), (3, va_rf r11)]) dX1_next_7 rfl (Nat.le_of_ble_eq_true rfl) rfl rfl ?_
  exact V.weak hf (by omega) (by omega)
def g_X1_next_8 (G : Gt) (E : Ev) (h : Hp) (k n : Nat) (a0 : Nat) (r_1 : Option Nat) (r_2 : Option Nat) (r_3 : Option Nat) (K : Option Nat → Hp → Prop) : Prop :=
rv h r_3 11 (f_J8_hasNext G h r_3 (fun i6 h5 =>
((i6 = 0 → rv h5 r_1 6 (f_X6_after G h5 r_1 (1 : Int32) (fun r13 h12 =>
K r13 h12))) ∧
(¬ (i6 = 0) → rv h5 r_3 11 (f_J8_next G h5 r_3 (fun r18 h17 =>
(oc h17 r18 5 ∧ rv h17 (some a0) 1 (f_X1_goesOn G h17 (some a0) r_1 r18 (fun i23 h22 =>
((i23 = 0 → V G E Y_X1_next cX1_next 6 (QM G E (kR K) xN) h22 k n 8 [(0, .ref a0), (1, va_rf r_1), (2, va_rf r_2), (3, va_rf r_3)] []) ∧
(¬ (i23 = 0) → rv h22 (some a0) 1 (f_X1_behind G h22 (some a0) r_1 r18 (fun r29 h28 =>
rv h28 r29 6 (f_X6_hashCode G h28 r29 (fun i35 h34 =>
aI h34 r_2 0 i35 fun i42 =>
gR h34 (some a0) 1 0 fun r43 =>
gI h34 r_1 6 0 fun i48 =>
rv h34 r43 10 (f_J2_get G h34 r43 i48 (fun r59 h58 =>
(oc h58 r59 3 ∧ rv h58 r59 3 (f_X3_steps G h58 r59 (fun i65 h64 =>
rv h64 r_1 6 (f_X6_hashCode G h64 r_1 (fun i70 h69 =>
aI h69 r_2 0 i70 fun i76 =>
((¬ (i42 + i65 = i76) → V G E Y_X1_next cX1_next 6 (QM G E (kR K) xN) h69 k n 8 [(0, .ref a0), (1, va_rf r_1), (2, va_rf r_2), (3, va_rf r_3)] []) ∧
(i42 + i65 = i76 → K r29 h69))))))))))))))))))))))))
theorem s_X1_next_8 {G : Gt} {E : Ev} {h : Hp} {k0 n0 : Nat} {a0 : Nat} {r_1 : Option Nat} {r_2 : Option Nat} {r_3 : Option Nat} {K : Option Nat → Hp → Prop} (hG : Base G) (hA : 1 ≤ k0) (hB : 2 ≤ n0) (hf : g_X1_next_8 G E h (k0 - 1) (n0 - 2) a0 r_1 r_2 r_3 K) : V G E Y_X1_next cX1_next 6 (QM G E (kR K) xN) h k0 n0 8 [(0, .ref a0), (1, va_rf r_1), (2, va_rf r_2), (3, va_rf r_3)] [] := by
  obtain ⟨k, hk9⟩ : ∃ z, z = k0 - 1 := ⟨_, rfl⟩
  obtain ⟨n, hn9⟩ : ∃ z, z = n0 - 2 := ⟨_, rfl⟩
  rw [← hk9, ← hn9] at hf
  refine V.weak (k' := k + 1) (n' := n + 2) ?_ (by omega) (by omega)
  unfold g_X1_next_8 at hf
  refine v_qload_n (r := r_3) (i := 3) dX1_next_8 rfl rfl ?_
  obtain ⟨a1, rfl⟩ := rv_s hf
  replace hf := rv_e hf
  obtain ⟨w2, fs3, hh4, hf⟩ := hf
  refine V.addK0 ?_
  refine V.addN0 ?_
  refine v_callF (mc := 0) (ms := 0) 0 dX1_next_9 (m_J8_hasNext hG hf) rfl hh4 rfl (lw_F q339 q343 q345 q99 q347) (fun C9 => v_Fw C9 (by decide) q341 q340 q346 q344 q342) rfl (by decide +kernel) (by decide) rfl (cat_len (Nat.le_of_ble_eq_true rfl)) (kk_I fun i6 h5 hg => ?_) (fun _ _ _ hx => hx.elim)
  replace hf := hg
  clear hg
  refine v_if_eq 87 dX1_next_14 (by decide) (fun c7 => ?_) (fun c7 => ?_)
  · replace hf := hf.1 c7
    refine v_qload_n (r := r_1) (i := 1) dX1_next_87 rfl rfl ?_
    refine v_iconst (v := 1) dX1_next_88 (by decide) ?_
    obtain ⟨a8, rfl⟩ := rv_s hf
    replace hf := rv_e hf
    obtain ⟨w9, fs10, hh11, hf⟩ := hf
    refine v_callV (mc := 1) (ms := 2) 1 dX1_next_89 (m_X6_after hG hf) rfl hh11 rfl (lw_V q1517 q1518 q1519 q123 q1520) rfl (by decide +kernel) (by decide) rfl (cat_len (Nat.le_of_ble_eq_true rfl)) (kk_R fun r13 h12 hg => ?_) (fun _ _ _ hx => hx.elim)
    replace hf := hg
    clear hg
    exact v_qret (r := r13) dX1_next_92 rfl (Or.inl ⟨_, rfl⟩) ⟨_, rfl, hf⟩
  · replace hf := hf.2 c7
    refine v_qload_n (r := (some a1)) (i := 3) dX1_next_17 rfl rfl ?_
    replace hf := rv_e hf
    obtain ⟨w14, fs15, hh16, hf⟩ := hf
    refine V.addK0 ?_
    refine V.addN0 ?_
    refine v_callF (mc := 0) (ms := 0) 0 dX1_next_18 (m_J8_next hG hf) rfl hh16 rfl (lw_F q361 q364 q366 q99 q368) (fun C9 => v_Fw C9 (by decide) q363 q362 q367 q365 q342) rfl (by decide +kernel) (by decide) rfl (cat_len (Nat.le_of_ble_eq_true rfl)) (kk_R fun r18 h17 hg => ?_) (fun _ _ _ hx => hx.elim)
    replace hf := hg
    clear hg
    obtain ⟨hoc, hf⟩ := hf
    refine v_castQS (r := r18) dX1_next_23 q499 hoc rfl ?_
    refine v_qstore (i := 4) (r := r18) (lv' := [(0, .ref a0), (1, va_rf r_1), (2, va_rf r_2), (3, va_rf (some a1)), (4, va_rf r18)]) dX1_next_26 (Nat.le_of_ble_eq_true rfl) rfl rfl ?_
    refine v_aload_n (i := 0) dX1_next_28 rfl rfl ?_
    refine v_qload_n (r := r_1) (i := 1) dX1_next_29 rfl rfl ?_
    refine v_qload (r := r18) (i := 4) dX1_next_30 rfl ?_
    replace hf := rv_e hf
    obtain ⟨w19, fs20, hh21, hf⟩ := hf
    refine V.addK0 ?_
    refine V.addN0 ?_
    refine v_callV (mc := 0) (ms := 0) 2 dX1_next_32 (m_X1_goesOn hG hf) rfl hh21 rfl (lw_V q1571 q1573 qs17 q89 q1574) rfl (by decide +kernel) (by decide) rfl (cat_len (Nat.le_of_ble_eq_true rfl)) (kk_I fun i23 h22 hg => ?_) (fun _ _ _ hx => hx.elim)
    replace hf := hg
    clear hg
    refine v_if_eq 84 dX1_next_35 (by decide) (fun c24 => ?_) (fun c24 => ?_)
    · replace hf := hf.1 c24
      refine v_goto 8 dX1_next_84 (by decide) ?_
      refine V.lp (lv' := [(0, .ref a0), (1, va_rf r_1), (2, va_rf r_2), (3, va_rf (some a1))]) [0, 1, 2, 3] rfl ?_
      exact V.weak hf (by omega) (by omega)
    · replace hf := hf.2 c24
      refine v_aload_n (i := 0) dX1_next_38 rfl rfl ?_
      refine v_qload_n (r := r_1) (i := 1) dX1_next_39 rfl rfl ?_
      refine v_qload (r := r18) (i := 4) dX1_next_40 rfl ?_
      replace hf := rv_e hf
      obtain ⟨w25, fs26, hh27, hf⟩ := hf
      refine v_callV (mc := 1) (ms := 2) 2 dX1_next_42 (m_X1_behind hG hf) rfl hh27 rfl (lw_V q1587 q1589 qs18 q89 q1590) rfl (by decide +kernel) (by decide) rfl (cat_len (Nat.le_of_ble_eq_true rfl)) (kk_R fun r29 h28 hg => ?_) (fun _ _ _ hx => hx.elim)
      replace hf := hg
      clear hg
      refine v_qstore (i := 5) (r := r29) (lv' := [(0, .ref a0), (1, va_rf r_1), (2, va_rf r_2), (3, va_rf (some a1)), (4, va_rf r18), (5, va_rf r29)]) dX1_next_45 (Nat.le_of_ble_eq_true rfl) rfl rfl ?_
      refine v_qload_n (r := r_2) (i := 2) dX1_next_47 rfl rfl ?_
      refine v_qload (r := r29) (i := 5) dX1_next_48 rfl ?_
      obtain ⟨a30, rfl⟩ := rv_s hf
      replace hf := rv_e hf
      obtain ⟨w31, fs32, hh33, hf⟩ := hf
      refine V.addK0 ?_
      refine V.addN0 ?_
      refine v_callV (mc := 0) (ms := 0) 0 dX1_next_50 (m_X6_hashCode hG hf) rfl hh33 rfl (lw_V q1802 q992 q2864 q123 q993) rfl (by decide +kernel) (by decide) rfl (cat_len (Nat.le_of_ble_eq_true rfl)) (kk_I fun i35 h34 hg => ?_) (fun _ _ _ hx => hx.elim)
      replace hf := hg
      clear hg
      obtain ⟨a36, rfl⟩ := aI_s hf
      replace hf := aI_e hf
      obtain ⟨w37, N38, f39, hh40, hi41, i42, ei42, hf⟩ := hf
      refine v_iald dX1_next_53 hh40 hi41 ?_
      rw [← ei42]
      refine v_aload_n (i := 0) dX1_next_54 rfl rfl ?_
      replace hf := gR_e hf
      obtain ⟨w44, fs45, r43, hh46, hk47, hf⟩ := hf
      refine v_getf (T := TX1) (ci := 1) 0 dX1_next_55 q188 rfl in_X1 (Nat.le_of_ble_eq_true rfl) (Or.inl rfl) hh46 hk47 ?_
      refine v_qload_n (r := r_1) (i := 1) dX1_next_58 rfl rfl ?_
      obtain ⟨a49, rfl⟩ := gI_s hf
      replace hf := gI_e hf
      obtain ⟨w50, fs51, i48, hh52, hk53, hf⟩ := hf
      refine v_getfN (T := TX6) (ci := 6) 0 dX1_next_59 q893 rfl in_X6 (Nat.le_of_ble_eq_true rfl) (Or.inl rfl) hh52 hk53 ?_
      obtain ⟨a54, rfl⟩ := rv_s hf
      replace hf := rv_e hf
      obtain ⟨w55, fs56, hh57, hf⟩ := hf
      refine V.addK0 ?_
      refine V.addN0 ?_
      refine v_callV (mc := 0) (ms := 0) 1 dX1_next_62 (m_J2_get hG hf) rfl hh57 rfl (lw_V q660 q661 q662 q92 q663) rfl (by decide +kernel) (by decide) rfl (cat_len (Nat.le_of_ble_eq_true rfl)) (kk_R fun r59 h58 hg => ?_) (fun _ _ _ hx => hx.elim)
      replace hf := hg
      clear hg
      obtain ⟨hoc, hf⟩ := hf
      refine v_castQS (r := r59) dX1_next_65 q402 hoc rfl ?_
      obtain ⟨a60, rfl⟩ := rv_s hf
      replace hf := rv_e hf
      obtain ⟨w61, fs62, hh63, hf⟩ := hf
      refine V.addK0 ?_
      refine V.addN0 ?_
      refine v_callV (mc := 0) (ms := 0) 0 dX1_next_68 (m_X3_steps hG hf) rfl hh63 rfl (lw_V q1575 q1576 q1577 q100 q1578) rfl (by decide +kernel) (by decide) rfl (cat_len (Nat.le_of_ble_eq_true rfl)) (kk_I fun i65 h64 hg => ?_) (fun _ _ _ hx => hx.elim)
      replace hf := hg
      clear hg
      refine v_iadd dX1_next_71 ?_
      refine v_qload_n (r := (some a36)) (i := 2) dX1_next_72 rfl rfl ?_
      refine v_qload_n (r := (some a49)) (i := 1) dX1_next_73 rfl rfl ?_
      replace hf := rv_e hf
      obtain ⟨w66, fs67, hh68, hf⟩ := hf
      refine V.addK0 ?_
      refine V.addN0 ?_
      refine v_callV (mc := 0) (ms := 0) 0 dX1_next_74 (m_X6_hashCode hG hf) rfl hh68 rfl (lw_V q1802 q992 q2864 q123 q993) rfl (by decide +kernel) (by decide) rfl (cat_len (Nat.le_of_ble_eq_true rfl)) (kk_I fun i70 h69 hg => ?_) (fun _ _ _ hx => hx.elim)
      replace hf := hg
      clear hg
      replace hf := aI_e hf
      obtain ⟨w71, N72, f73, hh74, hi75, i76, ei76, hf⟩ := hf
      refine v_iald dX1_next_77 hh74 hi75 ?_
      rw [← ei76]
      refine v_icmp_ne 84 dX1_next_78 (by decide) (fun c77 => ?_) (fun c77 => ?_)
      · replace hf := hf.1 c77
        refine v_goto 8 dX1_next_84 (by decide) ?_
        refine V.lp (lv' := [(0, .ref a0), (1, va_rf (some a49)), (2, va_rf (some a36)), (3, va_rf (some a1))]) [0, 1, 2, 3] rfl ?_
        exact V.weak hf (by omega) (by omega)
      · replace hf := hf.2 c77
        refine v_qload (r := (some a30)) (i := 5) dX1_next_81 rfl ?_
        exact v_qret (r := (some a30)) dX1_next_83 rfl (Or.inl ⟨_, rfl⟩) ⟨_, rfl, hf⟩
theorem b_X1_next {G : Gt} {h : Hp} {mc ms : Nat} {a0 : Nat} {r_1 : Option Nat} {r_2 : Option Nat} {K : Option Nat → Hp → Prop} (hG : Base G) (hf : ∀ E : Ev, V G E Y_X1_next cX1_next 6 (QM G E (kR K) xN) h mc ms 0 [(0, .ref a0), (1, va_rf r_1), (2, va_rf r_2)] []) : MM G Y_X1_next cX1_next 6 mc ms [.ref a0, va_rf r_1, va_rf r_2] h (kR K) xN := mm_of hG (by decide +kernel) rfl (ac_c rfl (ac_c (rf_cat _) (ac_c (rf_cat _) ac_nil))) (Nat.le_of_ble_eq_true rfl) (fun E _ _ => hf E)
abbrev Y_X1_told : Yt := (yX1_told, some (.object "java/util/LinkedList"), 6, 156, [])
def g_X1_told_0 (G : Gt) (E : Ev) (h : Hp) (k n : Nat) (a0 : Nat) (i_1 : Int32) (i_2 : Int32) (i_3 : Int32) (K : Option Nat → Hp → Prop) : Prop :=
nO h 19 [.int 0, .int 0, .null, .null] fun a1 h2 =>
f_J27_init G h2 (some a1) (fun h3 =>
rv h3 (some a0) 1 (dR G Y_X1_leftTo cX1_leftTo 6 [va_rf (some a0), .int i_2] h3 k n (fun r8 h7 k11 n12 =>
nO h7 6 [.int 0, .int 0] fun a13 h14 =>
f_X6_init G h14 (some a13) i_1 i_3 (fun h15 =>
rv h15 (some a13) 6 (f_X6_hashCode G h15 (some a13) (fun i20 h19 =>
aI h19 r8 0 i20 fun i27 =>
((¬ (i27 = (10000 : Int32)) → f_J25_valueOf G h19 i_1 (fun r30 h29 =>
rv h29 (some a1) 19 (f_J27_addLast G h29 (some a1) r30 (fun h34 =>
V G E Y_X1_told cX1_told 7 (QM G E (kR K) xN) h34 k11 n12 53 [(0, .ref a0), (2, .int i_2), (4, .ref a1), (5, va_rf r8), (6, .ref a13)] [])))) ∧
(i27 = (10000 : Int32) → K (some a1) h19)))))) xN))
theorem s_X1_told_0 {G : Gt} {E : Ev} {h : Hp} {k0 n0 : Nat} {a0 : Nat} {i_1 : Int32} {i_2 : Int32} {i_3 : Int32} {K : Option Nat → Hp → Prop} (hG : Base G) (hA : 4 ≤ k0) (hB : 10 ≤ n0) (hf : g_X1_told_0 G E h (k0 - 4) (n0 - 10) a0 i_1 i_2 i_3 K) : V G E Y_X1_told cX1_told 7 (QM G E (kR K) xN) h k0 n0 0 [(0, .ref a0), (1, .int i_1), (2, .int i_2), (3, .int i_3)] [] := by
  obtain ⟨k, hk9⟩ : ∃ z, z = k0 - 4 := ⟨_, rfl⟩
  obtain ⟨n, hn9⟩ : ∃ z, z = n0 - 10 := ⟨_, rfl⟩
  rw [← hk9, ← hn9] at hf
  refine V.weak (k' := k + 4) (n' := n + 10) ?_ (by omega) (by omega)
  unfold g_X1_told_0 at hf
  refine v_new (N := 4) (fs := [.int 0, .int 0, .null, .null]) (ci := 19) dX1_told_0 q866 q867 q122 rfl in_J27 tyJ27 tyJ27_ok rfl (fun a1 ha1 => ?_)
  replace hf := hf a1 ha1
  obtain ⟨h2, eh2⟩ : ∃ z, z = hs h a1 (true, .inr (19, [.int 0, .int 0, .null, .null])) := ⟨_, rfl⟩
  try rw [← eh2] at hf
  rw [← eh2]
  refine v_dup dX1_told_3 rfl ?_
  refine V.addK0 ?_
  refine V.addN0 ?_
  refine v_callI (mc := 0) (ms := 0) 0 dX1_told_4 (m_J27_init hG hf) rfl (lw_meth q870) rfl q122 q868 q869 rfl rfl (by decide +kernel) (by decide) rfl (cat_len (Nat.le_of_ble_eq_true rfl)) (kk_V fun h3 hg => ?_) (fun _ _ _ hx => hx.elim)
  replace hf := hg
  clear hg
  refine v_astore (i := 4) (lv' := [(0, .ref a0), (1, .int i_1), (2, .int i_2), (3, .int i_3), (4, .ref a1)]) dX1_told_7 (Nat.le_of_ble_eq_true rfl) rfl rfl ?_
  refine v_aload_n (i := 0) dX1_told_9 rfl rfl ?_
  refine v_iload_n (i := 2) dX1_told_10 rfl rfl ?_
  replace hf := rv_e hf
  obtain ⟨w4, fs5, hh6, hf⟩ := hf
  obtain ⟨mc9, ms10, hkmc9, hnms10, hM⟩ := hf
  refine V.weak (k' := ((k - mc9) + 3) + mc9) (n' := ((n - ms10) + 6) + ms10) ?_ (by omega) (by omega)
  refine v_callV 1 dX1_told_11 hM rfl hh6 rfl (lw_V q1794 q1796 qs29 q89 q1797) rfl (by decide +kernel) (by decide) rfl (cat_len (Nat.le_of_ble_eq_true rfl)) (kk_R fun r8 h7 hg => ?_) (fun _ _ _ hx => hx.elim)
  have hf := hg
  clear hg
  refine v_qstore (i := 5) (r := r8) (lv' := [(0, .ref a0), (1, .int i_1), (2, .int i_2), (3, .int i_3), (4, .ref a1), (5, va_rf r8)]) dX1_told_14 (Nat.le_of_ble_eq_true rfl) rfl rfl ?_
  refine v_new (N := 2) (fs := [.int 0, .int 0]) (ci := 6) dX1_told_16 q886 q887 q123 rfl in_X6 tyX6 tyX6_ok rfl (fun a13 ha13 => ?_)
  replace hf := hf a13 ha13
  obtain ⟨h14, eh14⟩ : ∃ z, z = hs h7 a13 (true, .inr (6, [.int 0, .int 0])) := ⟨_, rfl⟩
  try rw [← eh14] at hf
  rw [← eh14]
  refine v_dup dX1_told_19 rfl ?_
  refine v_iload_n (i := 1) dX1_told_20 rfl rfl ?_
  refine v_iload_n (i := 3) dX1_told_21 rfl rfl ?_
  refine V.addK0 ?_
  refine V.addN0 ?_
  refine v_callI (mc := 0) (ms := 0) 2 dX1_told_22 (m_X6_init hG hf) rfl (lw_meth q890) rfl q123 q888 q889 rfl rfl (by decide +kernel) (by decide) rfl (cat_len (Nat.le_of_ble_eq_true rfl)) (kk_V fun h15 hg => ?_) (fun _ _ _ hx => hx.elim)
  replace hf := hg
  clear hg
  refine v_astore (i := 6) (lv' := [(0, .ref a0), (1, .int i_1), (2, .int i_2), (3, .int i_3), (4, .ref a1), (5, va_rf r8), (6, .ref a13)]) dX1_told_25 (Nat.le_of_ble_eq_true rfl) rfl rfl ?_
  refine v_qload (r := r8) (i := 5) dX1_told_27 rfl ?_
  refine v_aload (i := 6) dX1_told_29 rfl ?_
  replace hf := rv_e hf
  obtain ⟨w16, fs17, hh18, hf⟩ := hf
  refine V.addK0 ?_
  refine V.addN0 ?_
  refine v_callV (mc := 0) (ms := 0) 0 dX1_told_31 (m_X6_hashCode hG hf) rfl hh18 rfl (lw_V q1802 q992 q2864 q123 q993) rfl (by decide +kernel) (by decide) rfl (cat_len (Nat.le_of_ble_eq_true rfl)) (kk_I fun i20 h19 hg => ?_) (fun _ _ _ hx => hx.elim)
  replace hf := hg
  clear hg
  obtain ⟨a21, rfl⟩ := aI_s hf
  replace hf := aI_e hf
  obtain ⟨w22, N23, f24, hh25, hi26, i27, ei27, hf⟩ := hf
  refine v_iald dX1_told_34 hh25 hi26 ?_
  rw [← ei27]
  refine v_sipush (v := 10000) dX1_told_35 (by decide) ?_
  refine v_icmp_ne 44 dX1_told_38 (by decide) (fun c28 => ?_) (fun c28 => ?_)
  · replace hf := hf.1 c28
    refine v_aload (i := 4) dX1_told_44 rfl ?_
    refine v_iload_n (i := 1) dX1_told_46 rfl rfl ?_
    refine v_callS (mc := 1) (ms := 1) 1 dX1_told_47 (m_J25_valueOf hG hf) rfl (lw_S q1623 q1624 q120 q1625) rfl (by decide +kernel) (by decide) rfl (cat_len (Nat.le_of_ble_eq_true rfl)) (kk_R fun r30 h29 hg => ?_) (fun _ _ _ hx => hx.elim)
    replace hf := hg
    clear hg
    replace hf := rv_e hf
    obtain ⟨w31, fs32, hh33, hf⟩ := hf
    refine v_callV (mc := 1) (ms := 3) 1 dX1_told_50 (m_J27_addLast hG hf) rfl hh33 rfl (lw_V q901 q902 q903 q122 q904) rfl (by decide +kernel) (by decide) rfl (cat_len (Nat.le_of_ble_eq_true rfl)) (kk_V fun h34 hg => ?_) (fun _ _ _ hx => hx.elim)
    replace hf := hg
    clear hg
    refine V.lp (lv' := [(0, .ref a0), (2, .int i_2), (4, .ref a1), (5, va_rf (some a21)), (6, .ref a13)]) [0, 2, 4, 5, 6] rfl ?_
    exact V.weak hf (by omega) (by omega)
  · replace hf := hf.2 c28
    refine v_aload (i := 4) dX1_told_41 rfl ?_
    exact v_qret (r := (some a1)) dX1_told_43 rfl (Or.inl ⟨_, rfl⟩) ⟨_, rfl, hf⟩
def g_X1_told_53 (G : Gt) (E : Ev) (h : Hp) (k n : Nat) (a0 : Nat) (i_2 : Int32) (r_4 : Option Nat) (r_5 : Option Nat) (r_6 : Option Nat) (K : Option Nat → Hp → Prop) : Prop :=
gI h r_6 6 0 fun i1 =>
((i1 = i_2 → K r_4 h) ∧
(¬ (i1 = i_2) → rv h (some a0) 1 (dR G Y_X1_next cX1_next 6 [va_rf (some a0), va_rf r_6, va_rf r_5] h k n (fun r12 h11 k15 n16 =>
gI h11 r12 6 0 fun i17 =>
f_J25_valueOf G h11 i17 (fun r24 h23 =>
rv h23 r_4 19 (f_J27_addLast G h23 r_4 r24 (fun h29 =>
V G E Y_X1_told cX1_told 7 (QM G E (kR K) xN) h29 k15 n16 53 [(0, .ref a0), (2, .int i_2), (4, va_rf r_4), (5, va_rf r_5), (6, va_rf r12)] [])))) xN)))
theorem s_X1_told_53 {G : Gt} {E : Ev} {h : Hp} {k0 n0 : Nat} {a0 : Nat} {i_2 : Int32} {r_4 : Option Nat} {r_5 : Option Nat} {r_6 : Option Nat} {K : Option Nat → Hp → Prop} (hG : Base G) (hA : 2 ≤ k0) (hB : 4 ≤ n0) (hf : g_X1_told_53 G E h (k0 - 2) (n0 - 4) a0 i_2 r_4 r_5 r_6 K) : V G E Y_X1_told cX1_told 7 (QM G E (kR K) xN) h k0 n0 53 [(0, .ref a0), (2, .int i_2), (4, va_rf r_4), (5, va_rf r_5), (6, va_rf r_6)] [] := by
  obtain ⟨k, hk9⟩ : ∃ z, z = k0 - 2 := ⟨_, rfl⟩
  obtain ⟨n, hn9⟩ : ∃ z, z = n0 - 4 := ⟨_, rfl⟩
  rw [← hk9, ← hn9] at hf
  refine V.weak (k' := k + 2) (n' := n + 4) ?_ (by omega) (by omega)
  unfold g_X1_told_53 at hf
  refine v_qload (r := r_6) (i := 6) dX1_told_53 rfl ?_
  obtain ⟨a2, rfl⟩ := gI_s hf
  replace hf := gI_e hf
  obtain ⟨w3, fs4, i1, hh5, hk6, hf⟩ := hf
  refine v_getfN (T := TX6) (ci := 6) 0 dX1_told_55 q893 rfl in_X6 (Nat.le_of_ble_eq_true rfl) (Or.inl rfl) hh5 hk6 ?_
  refine v_iload_n (i := 2) dX1_told_58 rfl rfl ?_
  refine v_icmp_eq 88 dX1_told_59 (by decide) (fun c7 => ?_) (fun c7 => ?_)
  · replace hf := hf.1 c7
    refine v_qload (r := r_4) (i := 4) dX1_told_88 rfl ?_
    exact v_qret (r := r_4) dX1_told_90 rfl (Or.inl ⟨_, rfl⟩) ⟨_, rfl, hf⟩
  · replace hf := hf.2 c7
    refine v_aload_n (i := 0) dX1_told_62 rfl rfl ?_
    refine v_qload (r := (some a2)) (i := 6) dX1_told_63 rfl ?_
    refine v_qload (r := r_5) (i := 5) dX1_told_65 rfl ?_
    replace hf := rv_e hf
    obtain ⟨w8, fs9, hh10, hf⟩ := hf
    obtain ⟨mc13, ms14, hkmc13, hnms14, hM⟩ := hf
    refine V.weak (k' := ((k - mc13) + 2) + mc13) (n' := ((n - ms14) + 4) + ms14) ?_ (by omega) (by omega)
    refine v_callV 2 dX1_told_67 hM rfl hh10 rfl (lw_V q1803 q1805 qs31 q89 q1806) rfl (by decide +kernel) (by decide) rfl (cat_len (Nat.le_of_ble_eq_true rfl)) (kk_R fun r12 h11 hg => ?_) (fun _ _ _ hx => hx.elim)
    have hf := hg
    clear hg
    refine v_qstore (i := 6) (r := r12) (lv' := [(0, .ref a0), (2, .int i_2), (4, va_rf r_4), (5, va_rf r_5), (6, va_rf r12)]) dX1_told_70 (Nat.le_of_ble_eq_true rfl) rfl rfl ?_
    refine v_qload (r := r_4) (i := 4) dX1_told_72 rfl ?_
    refine v_qload (r := r12) (i := 6) dX1_told_74 rfl ?_
    obtain ⟨a18, rfl⟩ := gI_s hf
    replace hf := gI_e hf
    obtain ⟨w19, fs20, i17, hh21, hk22, hf⟩ := hf
    refine v_getfN (T := TX6) (ci := 6) 0 dX1_told_76 q893 rfl in_X6 (Nat.le_of_ble_eq_true rfl) (Or.inl rfl) hh21 hk22 ?_
    refine v_callS (mc := 1) (ms := 1) 1 dX1_told_79 (m_J25_valueOf hG hf) rfl (lw_S q1623 q1624 q120 q1625) rfl (by decide +kernel) (by decide) rfl (cat_len (Nat.le_of_ble_eq_true rfl)) (kk_R fun r24 h23 hg => ?_) (fun _ _ _ hx => hx.elim)
    replace hf := hg
    clear hg
    obtain ⟨a25, rfl⟩ := rv_s hf
    replace hf := rv_e hf
    obtain ⟨w26, fs27, hh28, hf⟩ := hf
    refine v_callV (mc := 1) (ms := 3) 1 dX1_told_82 (m_J27_addLast hG hf) rfl hh28 rfl (lw_V q901 q902 q903 q122 q904) rfl (by decide +kernel) (by decide) rfl (cat_len (Nat.le_of_ble_eq_true rfl)) (kk_V fun h29 hg => ?_) (fun _ _ _ hx => hx.elim)
    replace hf := hg
    clear hg
    refine v_goto 53 dX1_told_85 (by decide) ?_
    exact V.weak hf (by omega) (by omega)
theorem b_X1_told {G : Gt} {h : Hp} {mc ms : Nat} {a0 : Nat} {i_1 : Int32} {i_2 : Int32} {i_3 : Int32} {K : Option Nat → Hp → Prop} (hG : Base G) (hf : ∀ E : Ev, V G E Y_X1_told cX1_told 7 (QM G E (kR K) xN) h mc ms 0 [(0, .ref a0), (1, .int i_1), (2, .int i_2), (3, .int i_3)] []) : MM G Y_X1_told cX1_told 7 mc ms [.ref a0, .int i_1, .int i_2, .int i_3] h (kR K) xN := mm_of hG (by decide +kernel) rfl (ac_c rfl (ac_c rfl (ac_c rfl (ac_c rfl ac_nil)))) (Nat.le_of_ble_eq_true rfl) (fun E _ _ => hf E)
abbrev Y_X1_longerBack : Yt := (yX1_longerBack, some (.int), 8, 220, [])
def f_X1_longerBack (G : Gt) (h : Hp) (k n : Nat) (t_0 : Option Nat) (i_1 : Int32) (i_2 : Int32) (i_3 : Int32) (K : Int32 → Hp → Prop) : Prop :=
rv h t_0 1 (dI G Y_X1_way cX1_way 4 [va_rf t_0, .int i_1, .int i_2, .int i_3] h k n (fun i5 h4 k8 n9 =>
((¬ (i5 = (-1015 : Int32)) → rv h4 t_0 1 (dI G Y_X1_way cX1_way 4 [va_rf t_0, .int i_2, .int i_1, .int ((i_3 + i5) - (i_3 + i5) / (2 : Int32) * (2 : Int32))] h4 k8 n9 (fun i15 h14 k18 n19 =>
K (i15 - i5) h14) xN)) ∧
(i5 = (-1015 : Int32) → K (-1015 : Int32) h4))) xN)
theorem m_X1_longerBack {G : Gt} {h : Hp} {mc ms : Nat} {a0 : Nat} {i_1 : Int32} {i_2 : Int32} {i_3 : Int32} {K : Int32 → Hp → Prop} (hG : Base G) (hA : 0 ≤ mc) (hB : 0 ≤ ms) (hf : f_X1_longerBack G h (mc - 0) (ms - 0) (some a0) i_1 i_2 i_3 K) : MM G Y_X1_longerBack cX1_longerBack 5 mc ms [.ref a0, .int i_1, .int i_2, .int i_3] h (kI K) xN := by
  refine mm_of hG (by decide +kernel) rfl (ac_c rfl (ac_c rfl (ac_c rfl (ac_c rfl ac_nil)))) (Nat.le_of_ble_eq_true rfl) (fun E _ _ => ?_)
  obtain ⟨k, hk9⟩ : ∃ z, z = mc - 0 := ⟨_, rfl⟩
  obtain ⟨n, hn9⟩ : ∃ z, z = ms - 0 := ⟨_, rfl⟩
  rw [← hk9, ← hn9] at hf
  refine V.weak (k' := k + 0) (n' := n + 0) ?_ (by omega) (by omega)
  show V G E Y_X1_longerBack cX1_longerBack 5 (QM G E (kI K) xN) h (k + 0) (n + 0) 0 [(0, .ref a0), (1, .int i_1), (2, .int i_2), (3, .int i_3)] []
  unfold f_X1_longerBack at hf
  refine v_qload_n (r := (some a0)) (i := 0) dX1_longerBack_0 rfl rfl ?_
  refine v_iload_n (i := 1) dX1_longerBack_1 rfl rfl ?_
  refine v_iload_n (i := 2) dX1_longerBack_2 rfl rfl ?_
  refine v_iload_n (i := 3) dX1_longerBack_3 rfl rfl ?_
  replace hf := rv_e hf
  obtain ⟨w1, fs2, hh3, hf⟩ := hf
  obtain ⟨mc6, ms7, hkmc6, hnms7, hM⟩ := hf
  refine V.weak (k' := ((k - mc6) + 0) + mc6) (n' := ((n - ms7) + 0) + ms7) ?_ (by omega) (by omega)
  refine v_callV 3 dX1_longerBack_4 hM rfl hh3 rfl (lw_V q1603 q1604 q1605 q89 q1606) rfl (by decide +kernel) (by decide) rfl (cat_len (Nat.le_of_ble_eq_true rfl)) (kk_I fun i5 h4 hg => ?_) (fun _ _ _ hx => hx.elim)
  have hf := hg
  clear hg
  refine v_istore (i := 4) (lv' := [(0, va_rf (some a0)), (1, .int i_1), (2, .int i_2), (3, .int i_3), (4, .int i5)]) dX1_longerBack_7 (Nat.le_of_ble_eq_true rfl) rfl rfl ?_
  refine v_iload (i := 4) dX1_longerBack_9 rfl ?_
  refine v_sipush (v := -1015) dX1_longerBack_11 (by decide) ?_
  refine v_icmp_ne 23 dX1_longerBack_14 (by decide) (fun c10 => ?_) (fun c10 => ?_)
  · replace hf := hf.1 c10
    refine v_qload_n (r := (some a0)) (i := 0) dX1_longerBack_23 rfl rfl ?_
    refine v_iload_n (i := 2) dX1_longerBack_24 rfl rfl ?_
    refine v_iload_n (i := 1) dX1_longerBack_25 rfl rfl ?_
    refine v_iload_n (i := 3) dX1_longerBack_26 rfl rfl ?_
    refine v_iload (i := 4) dX1_longerBack_27 rfl ?_
    refine v_iadd dX1_longerBack_29 ?_
    refine v_iconst (v := 2) dX1_longerBack_30 (by decide) ?_
    refine v_irem dX1_longerBack_31 (by decide) ?_
    replace hf := rv_e hf
    obtain ⟨w11, fs12, hh13, hf⟩ := hf
    obtain ⟨mc16, ms17, hkmc16, hnms17, hM⟩ := hf
    refine V.weak (k' := (((k - mc6) - mc16) + 0) + mc16) (n' := (((n - ms7) - ms17) + 0) + ms17) ?_ (by omega) (by omega)
    refine v_callV 3 dX1_longerBack_32 hM rfl hh13 rfl (lw_V q1603 q1604 q1605 q89 q1606) rfl (by decide +kernel) (by decide) rfl (cat_len (Nat.le_of_ble_eq_true rfl)) (kk_I fun i15 h14 hg => ?_) (fun _ _ _ hx => hx.elim)
    have hf := hg
    clear hg
    refine v_iload (i := 4) dX1_longerBack_35 rfl ?_
    refine v_isub dX1_longerBack_37 ?_
    exact v_iret dX1_longerBack_38 rfl ⟨_, rfl, hf⟩
  · replace hf := hf.2 c10
    refine v_sipush (v := -1015) dX1_longerBack_17 (by decide) ?_
    refine v_goto 38 dX1_longerBack_20 (by decide) ?_
    exact v_iret dX1_longerBack_38 rfl ⟨_, rfl, hf⟩
abbrev Y_X1_nearWalker : Yt := (yX1_nearWalker, some (.object "java/util/LinkedHashMap"), 7, 197, [])
def f_X1_nearWalker (G : Gt) (h : Hp) (k n : Nat) (t_0 : Option Nat) (K : Option Nat → Hp → Prop) : Prop :=
nO h 6 [.int 0, .int 0] fun a1 h2 =>
gI h2 t_0 1 3 fun i3 =>
gI h2 t_0 1 4 fun i8 =>
f_X6_init G h2 (some a1) i3 (i8 - i8 / (2 : Int32) * (2 : Int32)) (fun h13 =>
rv h13 t_0 1 (dR G Y_X1_near cX1_near 11 [va_rf t_0, .ref a1] h13 k n (fun r18 h17 k21 n22 =>
K r18 h17) xN))
theorem m_X1_nearWalker {G : Gt} {h : Hp} {mc ms : Nat} {a0 : Nat} {K : Option Nat → Hp → Prop} (hG : Base G) (hA : 1 ≤ mc) (hB : 2 ≤ ms) (hf : f_X1_nearWalker G h (mc - 1) (ms - 2) (some a0) K) : MM G Y_X1_nearWalker cX1_nearWalker 1 mc ms [.ref a0] h (kR K) xN := by
  refine mm_of hG (by decide +kernel) rfl (ac_c rfl ac_nil) (Nat.le_of_ble_eq_true rfl) (fun E _ _ => ?_)
  obtain ⟨k, hk9⟩ : ∃ z, z = mc - 1 := ⟨_, rfl⟩
  obtain ⟨n, hn9⟩ : ∃ z, z = ms - 2 := ⟨_, rfl⟩
  rw [← hk9, ← hn9] at hf
  refine V.weak (k' := k + 1) (n' := n + 2) ?_ (by omega) (by omega)
  show V G E Y_X1_nearWalker cX1_nearWalker 1 (QM G E (kR K) xN) h (k + 1) (n + 2) 0 [(0, .ref a0)] []
  unfold f_X1_nearWalker at hf
  refine v_qload_n (r := (some a0)) (i := 0) dX1_nearWalker_0 rfl rfl ?_
  refine v_new (N := 2) (fs := [.int 0, .int 0]) (ci := 6) dX1_nearWalker_1 q886 q887 q123 rfl in_X6 tyX6 tyX6_ok rfl (fun a1 ha1 => ?_)
  replace hf := hf a1 ha1
  obtain ⟨h2, eh2⟩ : ∃ z, z = hs h a1 (true, .inr (6, [.int 0, .int 0])) := ⟨_, rfl⟩
  try rw [← eh2] at hf
  rw [← eh2]
  refine v_dup dX1_nearWalker_4 rfl ?_
  refine v_qload_n (r := (some a0)) (i := 0) dX1_nearWalker_5 rfl rfl ?_
  replace hf := gI_e hf
  obtain ⟨w4, fs5, i3, hh6, hk7, hf⟩ := hf
  refine v_getf (T := TX1) (ci := 1) 3 dX1_nearWalker_6 q193 rfl in_X1 (Nat.le_of_ble_eq_true rfl) (Or.inl rfl) hh6 hk7 ?_
  refine v_qload_n (r := (some a0)) (i := 0) dX1_nearWalker_9 rfl rfl ?_
  replace hf := gI_e hf
  obtain ⟨w9, fs10, i8, hh11, hk12, hf⟩ := hf
  refine v_getf (T := TX1) (ci := 1) 4 dX1_nearWalker_10 q195 rfl in_X1 (Nat.le_of_ble_eq_true rfl) (Or.inl rfl) hh11 hk12 ?_
  refine v_iconst (v := 2) dX1_nearWalker_13 (by decide) ?_
  refine v_irem dX1_nearWalker_14 (by decide) ?_
  refine V.addK0 ?_
  refine V.addN0 ?_
  refine v_callI (mc := 0) (ms := 0) 2 dX1_nearWalker_15 (m_X6_init hG hf) rfl (lw_meth q890) rfl q123 q888 q889 rfl rfl (by decide +kernel) (by decide) rfl (cat_len (Nat.le_of_ble_eq_true rfl)) (kk_V fun h13 hg => ?_) (fun _ _ _ hx => hx.elim)
  replace hf := hg
  clear hg
  replace hf := rv_e hf
  obtain ⟨w14, fs15, hh16, hf⟩ := hf
  obtain ⟨mc19, ms20, hkmc19, hnms20, hM⟩ := hf
  refine V.weak (k' := ((k - mc19) + 0) + mc19) (n' := ((n - ms20) + 0) + ms20) ?_ (by omega) (by omega)
  refine v_callV 1 dX1_nearWalker_18 hM rfl hh16 rfl (lw_V q1607 q1609 qs19 q89 q1610) rfl (by decide +kernel) (by decide) rfl (cat_len (Nat.le_of_ble_eq_true rfl)) (kk_R fun r18 h17 hg => ?_) (fun _ _ _ hx => hx.elim)
  have hf := hg
  clear hg
  exact v_qret (r := r18) dX1_nearWalker_21 rfl (Or.inl ⟨_, rfl⟩) ⟨_, rfl, hf⟩
abbrev Y_J38_init : Yt := (yJ38_init, none, 1, 40, [])
def f_J38_init (G : Gt) (h : Hp) (t_0 : Option Nat) (r_1 : Option Nat) (i_2 : Int32) (K : Hp → Prop) : Prop :=
pF h t_0 23 4 (va_rf r_1) fun h3 =>
((narrow .boolean (.int i_2) = .int i_2 ∧ fits .boolean (.int i_2) = true) ∧ pF h3 t_0 23 3 (.int i_2) fun h6 =>
((i_2 = 0 → gR h6 r_1 17 8 fun r8 =>
pF h6 t_0 23 0 (va_rf r8) fun h16 =>
gI h16 r_1 17 3 fun i17 =>
pF h16 t_0 23 2 (.int i17) fun h24 =>
pF h24 t_0 23 1 (.null) fun h27 =>
K h27) ∧
(¬ (i_2 = 0) → gR h6 r_1 17 9 fun r28 =>
pF h6 t_0 23 0 (va_rf r28) fun h36 =>
gI h36 r_1 17 3 fun i37 =>
pF h36 t_0 23 2 (.int i37) fun h44 =>
pF h44 t_0 23 1 (.null) fun h47 =>
K h47)))
theorem m_J38_init {G : Gt} {h : Hp} {a0 : Nat} {r_1 : Option Nat} {i_2 : Int32} {K : Hp → Prop} (hG : Base G) (hf : f_J38_init G h (some a0) r_1 i_2 K) : MM G Y_J38_init cJ38_init 3 0 0 [.ref a0, va_rf r_1, .int i_2] h (kV K) xN := by
  refine mm_of hG (by decide +kernel) rfl (ac_c rfl (ac_c (rf_cat _) (ac_c rfl ac_nil))) (Nat.le_of_ble_eq_true rfl) (fun E _ _ => ?_)
  show V G E Y_J38_init cJ38_init 3 (QM G E (kV K) xN) h 0 0 0 [(0, .ref a0), (1, va_rf r_1), (2, .int i_2)] []
  unfold f_J38_init at hf
  refine v_qload_n (r := (some a0)) (i := 0) dJ38_init_0 rfl rfl ?_
  refine v_qload_n (r := r_1) (i := 1) dJ38_init_1 rfl rfl ?_
  replace hf := pF_e hf
  obtain ⟨fs1, hh2, hf⟩ := hf
  refine v_putfF (v := va_rf r_1) (T := TJ39) (ci := 23) (ty := .object "java/util/LinkedHashMap") 4 dJ38_init_2 q1923 rfl in_J39 tyJ39 tyJ39_ok nmJ39 (Nat.le_of_ble_eq_true rfl) (Or.inl rfl) rfl rfl rfl (by decide +kernel) (rf_nar _ _) (rf_fit _ _) hh2 ?_
  obtain ⟨h3, eh3⟩ : ∃ z, z = hs h a0 (true, .inr (23, fs1.set 4 (va_rf r_1))) := ⟨_, rfl⟩
  try rw [← eh3] at hf
  rw [← eh3]
  refine v_qload_n (r := (some a0)) (i := 0) dJ38_init_5 rfl rfl ?_
  refine v_objInit dJ38_init_6 q1918 q153 q154 (cat_len (Nat.le_of_ble_eq_true rfl)) (Nat.le_of_ble_eq_true rfl) (Nat.le_of_ble_eq_true rfl) ?_
  refine v_qload_n (r := (some a0)) (i := 0) dJ38_init_9 rfl rfl ?_
  refine v_iload_n (i := 2) dJ38_init_10 rfl rfl ?_
  obtain ⟨hnr, hf⟩ := hf
  replace hf := pF_e hf
  obtain ⟨fs4, hh5, hf⟩ := hf
  refine v_putf (v := .int i_2) (T := TJ39) (ci := 23) (ty := .boolean) 3 dJ38_init_11 q1922 rfl in_J39 tyJ39 tyJ39_ok nmJ39 (Nat.le_of_ble_eq_true rfl) (Or.inl rfl) rfl (by decide +kernel) hnr.1 hnr.2 hh5 ?_
  obtain ⟨h6, eh6⟩ : ∃ z, z = hs h3 a0 (true, .inr (23, fs4.set 3 (.int i_2))) := ⟨_, rfl⟩
  try rw [← eh6] at hf
  rw [← eh6]
  refine v_qload_n (r := (some a0)) (i := 0) dJ38_init_14 rfl rfl ?_
  refine v_iload_n (i := 2) dJ38_init_15 rfl rfl ?_
  refine v_if_eq 26 dJ38_init_16 (by decide) (fun c7 => ?_) (fun c7 => ?_)
  · replace hf := hf.1 c7
    refine v_qload_n (r := r_1) (i := 1) dJ38_init_26 rfl rfl ?_
    obtain ⟨a9, rfl⟩ := gR_s hf
    replace hf := gR_e hf
    obtain ⟨w10, fs11, r8, hh12, hk13, hf⟩ := hf
    refine v_getf (T := TJ22) (ci := 17) 8 dJ38_init_27 q814 rfl in_J22 (Nat.le_of_ble_eq_true rfl) (Or.inl rfl) hh12 hk13 ?_
    replace hf := pF_e hf
    obtain ⟨fs14, hh15, hf⟩ := hf
    refine v_putf (v := va_rf r8) (T := TJ39) (ci := 23) (ty := .object "java/util/LinkedHashMap$Entry") 0 dJ38_init_30 q1919 rfl in_J39 tyJ39 tyJ39_ok nmJ39 (Nat.le_of_ble_eq_true rfl) (Or.inl rfl) rfl (by decide +kernel) (rf_nar _ _) (rf_fit _ _) hh15 ?_
    obtain ⟨h16, eh16⟩ : ∃ z, z = hs h6 a0 (true, .inr (23, fs14.set 0 (va_rf r8))) := ⟨_, rfl⟩
    try rw [← eh16] at hf
    rw [← eh16]
    refine v_qload_n (r := (some a0)) (i := 0) dJ38_init_33 rfl rfl ?_
    refine v_qload_n (r := (some a9)) (i := 1) dJ38_init_34 rfl rfl ?_
    replace hf := gI_e hf
    obtain ⟨w18, fs19, i17, hh20, hk21, hf⟩ := hf
    refine v_getf (T := TJ22) (ci := 17) 3 dJ38_init_35 q827 rfl in_J22 (Nat.le_of_ble_eq_true rfl) (Or.inr q828) hh20 hk21 ?_
    replace hf := pF_e hf
    obtain ⟨fs22, hh23, hf⟩ := hf
    refine v_putf (v := .int i17) (T := TJ39) (ci := 23) (ty := .int) 2 dJ38_init_38 q1921 rfl in_J39 tyJ39 tyJ39_ok nmJ39 (Nat.le_of_ble_eq_true rfl) (Or.inl rfl) rfl (by decide +kernel) rfl rfl hh23 ?_
    obtain ⟨h24, eh24⟩ : ∃ z, z = hs h16 a0 (true, .inr (23, fs22.set 2 (.int i17))) := ⟨_, rfl⟩
    try rw [← eh24] at hf
    rw [← eh24]
    refine v_qload_n (r := (some a0)) (i := 0) dJ38_init_41 rfl rfl ?_
    refine v_null dJ38_init_42 ?_
    replace hf := pF_e hf
    obtain ⟨fs25, hh26, hf⟩ := hf
    refine v_putf (v := .null) (T := TJ39) (ci := 23) (ty := .object "java/util/LinkedHashMap$Entry") 1 dJ38_init_43 q1920 rfl in_J39 tyJ39 tyJ39_ok nmJ39 (Nat.le_of_ble_eq_true rfl) (Or.inl rfl) rfl (by decide +kernel) rfl rfl hh26 ?_
    obtain ⟨h27, eh27⟩ : ∃ z, z = hs h24 a0 (true, .inr (23, fs25.set 1 (.null))) := ⟨_, rfl⟩
    try rw [← eh27] at hf
    rw [← eh27]
    exact v_vret dJ38_init_46 rfl ⟨rfl, hf⟩
  · replace hf := hf.2 c7
    refine v_qload_n (r := r_1) (i := 1) dJ38_init_19 rfl rfl ?_
    obtain ⟨a29, rfl⟩ := gR_s hf
    replace hf := gR_e hf
    obtain ⟨w30, fs31, r28, hh32, hk33, hf⟩ := hf
    refine v_getf (T := TJ22) (ci := 17) 9 dJ38_init_20 q815 rfl in_J22 (Nat.le_of_ble_eq_true rfl) (Or.inl rfl) hh32 hk33 ?_
    refine v_goto 30 dJ38_init_23 (by decide) ?_
    replace hf := pF_e hf
    obtain ⟨fs34, hh35, hf⟩ := hf
    refine v_putf (v := va_rf r28) (T := TJ39) (ci := 23) (ty := .object "java/util/LinkedHashMap$Entry") 0 dJ38_init_30 q1919 rfl in_J39 tyJ39 tyJ39_ok nmJ39 (Nat.le_of_ble_eq_true rfl) (Or.inl rfl) rfl (by decide +kernel) (rf_nar _ _) (rf_fit _ _) hh35 ?_
    obtain ⟨h36, eh36⟩ : ∃ z, z = hs h6 a0 (true, .inr (23, fs34.set 0 (va_rf r28))) := ⟨_, rfl⟩
    try rw [← eh36] at hf
    rw [← eh36]
    refine v_qload_n (r := (some a0)) (i := 0) dJ38_init_33 rfl rfl ?_
    refine v_qload_n (r := (some a29)) (i := 1) dJ38_init_34 rfl rfl ?_
    replace hf := gI_e hf
    obtain ⟨w38, fs39, i37, hh40, hk41, hf⟩ := hf
    refine v_getf (T := TJ22) (ci := 17) 3 dJ38_init_35 q827 rfl in_J22 (Nat.le_of_ble_eq_true rfl) (Or.inr q828) hh40 hk41 ?_
    replace hf := pF_e hf
    obtain ⟨fs42, hh43, hf⟩ := hf
    refine v_putf (v := .int i37) (T := TJ39) (ci := 23) (ty := .int) 2 dJ38_init_38 q1921 rfl in_J39 tyJ39 tyJ39_ok nmJ39 (Nat.le_of_ble_eq_true rfl) (Or.inl rfl) rfl (by decide +kernel) rfl rfl hh43 ?_
    obtain ⟨h44, eh44⟩ : ∃ z, z = hs h36 a0 (true, .inr (23, fs42.set 2 (.int i37))) := ⟨_, rfl⟩
    try rw [← eh44] at hf
    rw [← eh44]
    refine v_qload_n (r := (some a0)) (i := 0) dJ38_init_41 rfl rfl ?_
    refine v_null dJ38_init_42 ?_
    replace hf := pF_e hf
    obtain ⟨fs45, hh46, hf⟩ := hf
    refine v_putf (v := .null) (T := TJ39) (ci := 23) (ty := .object "java/util/LinkedHashMap$Entry") 1 dJ38_init_43 q1920 rfl in_J39 tyJ39 tyJ39_ok nmJ39 (Nat.le_of_ble_eq_true rfl) (Or.inl rfl) rfl (by decide +kernel) rfl rfl hh46 ?_
    obtain ⟨h47, eh47⟩ : ∃ z, z = hs h44 a0 (true, .inr (23, fs45.set 1 (.null))) := ⟨_, rfl⟩
    try rw [← eh47] at hf
    rw [← eh47]
    exact v_vret dJ38_init_46 rfl ⟨rfl, hf⟩
abbrev Y_J39_init : Yt := (yJ39_init, none, 2, 62, [])
def f_J39_init (G : Gt) (h : Hp) (t_0 : Option Nat) (r_1 : Option Nat) (i_2 : Int32) (K : Hp → Prop) : Prop :=
f_J38_init G h t_0 r_1 i_2 (fun h1 =>
K h1)
theorem m_J39_init {G : Gt} {h : Hp} {a0 : Nat} {r_1 : Option Nat} {i_2 : Int32} {K : Hp → Prop} (hG : Base G) (hf : f_J39_init G h (some a0) r_1 i_2 K) : MM G Y_J39_init cJ39_init 3 0 0 [.ref a0, va_rf r_1, .int i_2] h (kV K) xN := by
  refine mm_of hG (by decide +kernel) rfl (ac_c rfl (ac_c (rf_cat _) (ac_c rfl ac_nil))) (Nat.le_of_ble_eq_true rfl) (fun E _ _ => ?_)
  show V G E Y_J39_init cJ39_init 3 (QM G E (kV K) xN) h 0 0 0 [(0, .ref a0), (1, va_rf r_1), (2, .int i_2)] []
  unfold f_J39_init at hf
  refine v_qload_n (r := (some a0)) (i := 0) dJ39_init_0 rfl rfl ?_
  refine v_qload_n (r := r_1) (i := 1) dJ39_init_1 rfl rfl ?_
  refine v_iload_n (i := 2) dJ39_init_2 rfl rfl ?_
  refine V.addK0 ?_
  refine V.addN0 ?_
  refine v_callI (mc := 0) (ms := 0) 2 dJ39_init_3 (m_J38_init hG hf) rfl (lw_meth q1917) rfl q136 q1915 q1916 rfl rfl (by decide +kernel) (by decide) rfl (cat_len (Nat.le_of_ble_eq_true rfl)) (kk_V fun h1 hg => ?_) (fun _ _ _ hx => hx.elim)
  replace hf := hg
  clear hg
  exact v_vret dJ39_init_6 rfl ⟨rfl, hf⟩
abbrev Y_J35_iterator : Yt := (yJ35_iterator, some (.object "java/util/Iterator"), 3, 84, [])
def f_J35_iterator (G : Gt) (h : Hp) (t_0 : Option Nat) (K : Option Nat → Hp → Prop) : Prop :=
nO h 23 [.null, .null, .int 0, .int 0, .null] fun a1 h2 =>
gR h2 t_0 22 1 fun r3 =>
gI h2 t_0 22 0 fun i8 =>
f_J39_init G h2 (some a1) r3 i8 (fun h13 =>
K (some a1) h13)
theorem m_J35_iterator {G : Gt} {h : Hp} {a0 : Nat} {K : Option Nat → Hp → Prop} (hG : Base G) (hf : f_J35_iterator G h (some a0) K) : MM G Y_J35_iterator cJ35_iterator 1 1 5 [.ref a0] h (kR K) xN := by
  refine mm_of hG (by decide +kernel) rfl (ac_c rfl ac_nil) (Nat.le_of_ble_eq_true rfl) (fun E _ _ => ?_)
  show V G E Y_J35_iterator cJ35_iterator 1 (QM G E (kR K) xN) h 1 5 0 [(0, .ref a0)] []
  unfold f_J35_iterator at hf
  refine v_new (N := 5) (fs := [.null, .null, .int 0, .int 0, .null]) (ci := 23) dJ35_iterator_0 q1910 q1911 q137 rfl in_J39 tyJ39 tyJ39_ok rfl (fun a1 ha1 => ?_)
  replace hf := hf a1 ha1
  obtain ⟨h2, eh2⟩ : ∃ z, z = hs h a1 (true, .inr (23, [.null, .null, .int 0, .int 0, .null])) := ⟨_, rfl⟩
  try rw [← eh2] at hf
  rw [← eh2]
  refine v_dup dJ35_iterator_3 rfl ?_
  refine v_qload_n (r := (some a0)) (i := 0) dJ35_iterator_4 rfl rfl ?_
  replace hf := gR_e hf
  obtain ⟨w4, fs5, r3, hh6, hk7, hf⟩ := hf
  refine v_getf (T := TJ35) (ci := 22) 1 dJ35_iterator_5 q1862 rfl in_J35 (Nat.le_of_ble_eq_true rfl) (Or.inl rfl) hh6 hk7 ?_
  refine v_qload_n (r := (some a0)) (i := 0) dJ35_iterator_8 rfl rfl ?_
  replace hf := gI_e hf
  obtain ⟨w9, fs10, i8, hh11, hk12, hf⟩ := hf
  refine v_getf (T := TJ35) (ci := 22) 0 dJ35_iterator_9 q1861 rfl in_J35 (Nat.le_of_ble_eq_true rfl) (Or.inl rfl) hh11 hk12 ?_
  refine V.addK0 ?_
  refine V.addN0 ?_
  refine v_callI (mc := 0) (ms := 0) 2 dJ35_iterator_12 (m_J39_init hG hf) rfl (lw_meth q1914) rfl q137 q1912 q1913 rfl rfl (by decide +kernel) (by decide) rfl (cat_len (Nat.le_of_ble_eq_true rfl)) (kk_V fun h13 hg => ?_) (fun _ _ _ hx => hx.elim)
  replace hf := hg
  clear hg
  exact v_qret (r := (some a1)) dJ35_iterator_15 rfl (Or.inl ⟨_, rfl⟩) ⟨_, rfl, hf⟩
abbrev Y_J38_hasNext : Yt := (yJ38_hasNext, some (.boolean), 1, 40, [])
def f_J38_hasNext (G : Gt) (h : Hp) (t_0 : Option Nat) (K : Int32 → Hp → Prop) : Prop :=
gR h t_0 23 0 fun r1 =>
((r1 = none → K (0 : Int32) h) ∧
(∀ y6, r1 = some y6 → K (1 : Int32) h))
theorem m_J38_hasNext {G : Gt} {h : Hp} {a0 : Nat} {K : Int32 → Hp → Prop} (hG : Base G) (hf : f_J38_hasNext G h (some a0) K) : MM G Y_J38_hasNext cJ38_hasNext 1 0 0 [.ref a0] h (kI K) xN := by
  refine mm_of hG (by decide +kernel) rfl (ac_c rfl ac_nil) (Nat.le_of_ble_eq_true rfl) (fun E _ _ => ?_)
  show V G E Y_J38_hasNext cJ38_hasNext 1 (QM G E (kI K) xN) h 0 0 0 [(0, .ref a0)] []
  unfold f_J38_hasNext at hf
  refine v_qload_n (r := (some a0)) (i := 0) dJ38_hasNext_0 rfl rfl ?_
  replace hf := gR_e hf
  obtain ⟨w2, fs3, r1, hh4, hk5, hf⟩ := hf
  refine v_getf (T := TJ39) (ci := 23) 0 dJ38_hasNext_1 q1919 rfl in_J39 (Nat.le_of_ble_eq_true rfl) (Or.inl rfl) hh4 hk5 ?_
  refine v_ifnull 11 dJ38_hasNext_4 (by decide) (fun e7 => ?_) (fun y6 e7 => ?_)
  · replace hf := hf.1 e7
    subst e7
    refine v_iconst (v := 0) dJ38_hasNext_11 (by decide) ?_
    exact v_zret dJ38_hasNext_12 rfl (by decide) ⟨_, rfl, hf⟩
  · replace hf := hf.2 y6 e7
    subst e7
    refine v_iconst (v := 1) dJ38_hasNext_7 (by decide) ?_
    refine v_goto 12 dJ38_hasNext_8 (by decide) ?_
    exact v_zret dJ38_hasNext_12 rfl (by decide) ⟨_, rfl, hf⟩
abbrev Y_J38_nextNode : Yt := (yJ38_nextNode, some (.object "java/util/LinkedHashMap$Entry"), 1, 40, [])
def f_J38_nextNode (G : Gt) (h : Hp) (t_0 : Option Nat) (K : Option Nat → Hp → Prop) : Prop :=
gR h t_0 23 0 fun r1 =>
gR h t_0 23 4 fun r6 =>
gI h r6 17 3 fun i11 =>
gI h t_0 23 2 fun i17 =>
((i11 = i17 → ((r1 = none → False) ∧
(∀ y23, r1 = some y23 → pF h t_0 23 1 (va_rf r1) fun h27 =>
gI h27 t_0 23 3 fun i28 =>
((i28 = 0 → gR h27 r1 21 5 fun r34 =>
pF h27 t_0 23 0 (va_rf r34) fun h41 =>
K r1 h41) ∧
(¬ (i28 = 0) → gR h27 r1 21 4 fun r42 =>
pF h27 t_0 23 0 (va_rf r42) fun h49 =>
K r1 h49))))) ∧
(¬ (i11 = i17) → False))
theorem m_J38_nextNode {G : Gt} {h : Hp} {a0 : Nat} {K : Option Nat → Hp → Prop} (hG : Base G) (hf : f_J38_nextNode G h (some a0) K) : MM G Y_J38_nextNode cJ38_nextNode 2 0 0 [.ref a0] h (kR K) xN := by
  refine mm_of hG (by decide +kernel) rfl (ac_c rfl ac_nil) (Nat.le_of_ble_eq_true rfl) (fun E _ _ => ?_)
  show V G E Y_J38_nextNode cJ38_nextNode 2 (QM G E (kR K) xN) h 0 0 0 [(0, .ref a0)] []
  unfold f_J38_nextNode at hf
  refine v_qload_n (r := (some a0)) (i := 0) dJ38_nextNode_0 rfl rfl ?_
  replace hf := gR_e hf
  obtain ⟨w2, fs3, r1, hh4, hk5, hf⟩ := hf
  refine v_getf (T := TJ39) (ci := 23) 0 dJ38_nextNode_1 q1919 rfl in_J39 (Nat.le_of_ble_eq_true rfl) (Or.inl rfl) hh4 hk5 ?_
  refine v_qstore_n (i := 1) (r := r1) (lv' := [(0, va_rf (some a0)), (1, va_rf r1)]) dJ38_nextNode_4 rfl (Nat.le_of_ble_eq_true rfl) rfl rfl ?_
  refine v_qload_n (r := (some a0)) (i := 0) dJ38_nextNode_5 rfl rfl ?_
  replace hf := gR_e hf
  obtain ⟨w7, fs8, r6, hh9, hk10, hf⟩ := hf
  refine v_getf (T := TJ39) (ci := 23) 4 dJ38_nextNode_6 q1923 rfl in_J39 (Nat.le_of_ble_eq_true rfl) (Or.inl rfl) hh9 hk10 ?_
  obtain ⟨a12, rfl⟩ := gI_s hf
  replace hf := gI_e hf
  obtain ⟨w13, fs14, i11, hh15, hk16, hf⟩ := hf
  refine v_getf (T := TJ22) (ci := 17) 3 dJ38_nextNode_9 q827 rfl in_J22 (Nat.le_of_ble_eq_true rfl) (Or.inr q828) hh15 hk16 ?_
  refine v_qload_n (r := (some a0)) (i := 0) dJ38_nextNode_12 rfl rfl ?_
  replace hf := gI_e hf
  obtain ⟨w18, fs19, i17, hh20, hk21, hf⟩ := hf
  refine v_getf (T := TJ39) (ci := 23) 2 dJ38_nextNode_13 q1921 rfl in_J39 (Nat.le_of_ble_eq_true rfl) (Or.inl rfl) hh20 hk21 ?_
  refine v_icmp_eq 27 dJ38_nextNode_16 (by decide) (fun c22 => ?_) (fun c22 => ?_)
  · replace hf := hf.1 c22
    refine v_qload_n (r := r1) (i := 1) dJ38_nextNode_27 rfl rfl ?_
    refine v_ifnonnull 39 dJ38_nextNode_28 (by decide) (fun y23 e24 => ?_) (fun e24 => ?_)
    · replace hf := hf.2 y23 e24
      subst e24
      refine v_qload_n (r := (some a0)) (i := 0) dJ38_nextNode_39 rfl rfl ?_
      refine v_qload_n (r := (some y23)) (i := 1) dJ38_nextNode_40 rfl rfl ?_
      replace hf := pF_e hf
      obtain ⟨fs25, hh26, hf⟩ := hf
      refine v_putf (v := va_rf (some y23)) (T := TJ39) (ci := 23) (ty := .object "java/util/LinkedHashMap$Entry") 1 dJ38_nextNode_41 q1920 rfl in_J39 tyJ39 tyJ39_ok nmJ39 (Nat.le_of_ble_eq_true rfl) (Or.inl rfl) rfl (by decide +kernel) (rf_nar _ _) (rf_fit _ _) hh26 ?_
      obtain ⟨h27, eh27⟩ : ∃ z, z = hs h a0 (true, .inr (23, fs25.set 1 (va_rf (some y23)))) := ⟨_, rfl⟩
      try rw [← eh27] at hf
      rw [← eh27]
      refine v_qload_n (r := (some a0)) (i := 0) dJ38_nextNode_44 rfl rfl ?_
      refine v_qload_n (r := (some a0)) (i := 0) dJ38_nextNode_45 rfl rfl ?_
      replace hf := gI_e hf
      obtain ⟨w29, fs30, i28, hh31, hk32, hf⟩ := hf
      refine v_getf (T := TJ39) (ci := 23) 3 dJ38_nextNode_46 q1922 rfl in_J39 (Nat.le_of_ble_eq_true rfl) (Or.inl rfl) hh31 hk32 ?_
      refine v_if_eq 59 dJ38_nextNode_49 (by decide) (fun c33 => ?_) (fun c33 => ?_)
      · replace hf := hf.1 c33
        refine v_qload_n (r := (some y23)) (i := 1) dJ38_nextNode_59 rfl rfl ?_
        replace hf := gR_e hf
        obtain ⟨w35, fs36, r34, hh37, hk38, hf⟩ := hf
        refine v_getf (T := TJ31) (ci := 21) 5 dJ38_nextNode_60 q1113 rfl in_J31 (Nat.le_of_ble_eq_true rfl) (Or.inl rfl) hh37 hk38 ?_
        replace hf := pF_e hf
        obtain ⟨fs39, hh40, hf⟩ := hf
        refine v_putf (v := va_rf r34) (T := TJ39) (ci := 23) (ty := .object "java/util/LinkedHashMap$Entry") 0 dJ38_nextNode_63 q1919 rfl in_J39 tyJ39 tyJ39_ok nmJ39 (Nat.le_of_ble_eq_true rfl) (Or.inl rfl) rfl (by decide +kernel) (rf_nar _ _) (rf_fit _ _) hh40 ?_
        obtain ⟨h41, eh41⟩ : ∃ z, z = hs h27 a0 (true, .inr (23, fs39.set 0 (va_rf r34))) := ⟨_, rfl⟩
        try rw [← eh41] at hf
        rw [← eh41]
        refine v_qload_n (r := (some y23)) (i := 1) dJ38_nextNode_66 rfl rfl ?_
        exact v_qret (r := (some y23)) dJ38_nextNode_67 rfl (Or.inl ⟨_, rfl⟩) ⟨_, rfl, hf⟩
      · replace hf := hf.2 c33
        refine v_qload_n (r := (some y23)) (i := 1) dJ38_nextNode_52 rfl rfl ?_
        replace hf := gR_e hf
        obtain ⟨w43, fs44, r42, hh45, hk46, hf⟩ := hf
        refine v_getf (T := TJ31) (ci := 21) 4 dJ38_nextNode_53 q1111 rfl in_J31 (Nat.le_of_ble_eq_true rfl) (Or.inl rfl) hh45 hk46 ?_
        refine v_goto 63 dJ38_nextNode_56 (by decide) ?_
        replace hf := pF_e hf
        obtain ⟨fs47, hh48, hf⟩ := hf
        refine v_putf (v := va_rf r42) (T := TJ39) (ci := 23) (ty := .object "java/util/LinkedHashMap$Entry") 0 dJ38_nextNode_63 q1919 rfl in_J39 tyJ39 tyJ39_ok nmJ39 (Nat.le_of_ble_eq_true rfl) (Or.inl rfl) rfl (by decide +kernel) (rf_nar _ _) (rf_fit _ _) hh48 ?_
        obtain ⟨h49, eh49⟩ : ∃ z, z = hs h27 a0 (true, .inr (23, fs47.set 0 (va_rf r42))) := ⟨_, rfl⟩
        try rw [← eh49] at hf
        rw [← eh49]
        refine v_qload_n (r := (some y23)) (i := 1) dJ38_nextNode_66 rfl rfl ?_
        exact v_qret (r := (some y23)) dJ38_nextNode_67 rfl (Or.inl ⟨_, rfl⟩) ⟨_, rfl, hf⟩
    · replace hf := hf.1 e24
      subst e24
      exact hf.elim
  · replace hf := hf.2 c22
    exact hf.elim
abbrev Y_J30_getKey : Yt := (yJ30_getKey, some (.object "java/lang/Object"), 1, 40, [])
def f_J30_getKey (G : Gt) (h : Hp) (t_0 : Option Nat) (K : Option Nat → Hp → Prop) : Prop :=
gR h t_0 21 1 fun r1 =>
K r1 h
theorem m_J30_getKey {G : Gt} {h : Hp} {a0 : Nat} {K : Option Nat → Hp → Prop} (hG : Base G) (hf : f_J30_getKey G h (some a0) K) : MM G Y_J30_getKey cJ30_getKey 1 0 0 [.ref a0] h (kR K) xN := by
  refine mm_of hG (by decide +kernel) rfl (ac_c rfl ac_nil) (Nat.le_of_ble_eq_true rfl) (fun E _ _ => ?_)
  show V G E Y_J30_getKey cJ30_getKey 1 (QM G E (kR K) xN) h 0 0 0 [(0, .ref a0)] []
  unfold f_J30_getKey at hf
  refine v_qload_n (r := (some a0)) (i := 0) dJ30_getKey_0 rfl rfl ?_
  replace hf := gR_e hf
  obtain ⟨w2, fs3, r1, hh4, hk5, hf⟩ := hf
  refine v_getf (T := TJ31) (ci := 21) 1 dJ30_getKey_1 q1120 rfl in_J31 (Nat.le_of_ble_eq_true rfl) (Or.inl rfl) hh4 hk5 ?_
  exact v_qret (r := r1) dJ30_getKey_4 rfl (Or.inl ⟨_, rfl⟩) ⟨_, rfl, hf⟩
abbrev Y_J39_next : Yt := (yJ39_next, some (.object "java/lang/Object"), 2, 61, [])
def f_J39_next (G : Gt) (h : Hp) (t_0 : Option Nat) (K : Option Nat → Hp → Prop) : Prop :=
rv h t_0 23 (f_J38_nextNode G h t_0 (fun r5 h4 =>
rv h4 r5 21 (f_J30_getKey G h4 r5 (fun r11 h10 =>
K r11 h10))))
theorem m_J39_next {G : Gt} {h : Hp} {a0 : Nat} {K : Option Nat → Hp → Prop} (hG : Base G) (hf : f_J39_next G h (some a0) K) : MM G Y_J39_next cJ39_next 1 0 0 [.ref a0] h (kR K) xN := by
  refine mm_of hG (by decide +kernel) rfl (ac_c rfl ac_nil) (Nat.le_of_ble_eq_true rfl) (fun E _ _ => ?_)
  show V G E Y_J39_next cJ39_next 1 (QM G E (kR K) xN) h 0 0 0 [(0, .ref a0)] []
  unfold f_J39_next at hf
  refine v_qload_n (r := (some a0)) (i := 0) dJ39_next_0 rfl rfl ?_
  replace hf := rv_e hf
  obtain ⟨w1, fs2, hh3, hf⟩ := hf
  refine V.addK0 ?_
  refine V.addN0 ?_
  refine v_callU (mc := 0) (ms := 0) 0 dJ39_next_1 (m_J38_nextNode hG hf) rfl hh3 rfl (lw_U q389 q390 q392 q393 q136 q394) rfl rfl (by decide +kernel) (by decide) rfl (cat_len (Nat.le_of_ble_eq_true rfl)) (kk_R fun r5 h4 hg => ?_) (fun _ _ _ hx => hx.elim)
  replace hf := hg
  clear hg
  obtain ⟨a6, rfl⟩ := rv_s hf
  replace hf := rv_e hf
  obtain ⟨w7, fs8, hh9, hf⟩ := hf
  refine V.addK0 ?_
  refine V.addN0 ?_
  refine v_callU (mc := 0) (ms := 0) 0 dJ39_next_4 (m_J30_getKey hG hf) rfl hh9 rfl (lw_U q395 q396 q399 q400 q126 q401) rfl rfl (by decide +kernel) (by decide) rfl (cat_len (Nat.le_of_ble_eq_true rfl)) (kk_R fun r11 h10 hg => ?_) (fun _ _ _ hx => hx.elim)
  replace hf := hg
  clear hg
  exact v_qret (r := r11) dJ39_next_7 rfl (Or.inl ⟨_, rfl⟩) ⟨_, rfl, hf⟩
abbrev Y_X1_reach : Yt := (yX1_reach, some (.int), 8, 217, [])
def g_X1_reach_0 (G : Gt) (E : Ev) (h : Hp) (k n : Nat) (a0 : Nat) (K : Int32 → Hp → Prop) : Prop :=
gR h (some a0) 1 0 fun r1 =>
rv h r1 10 (f_J2_isEmpty G h r1 (fun i11 h10 =>
((¬ (i11 = 0) → K (0 : Int32) h10) ∧
(i11 = 0 → rv h10 (some a0) 1 (dR G Y_X1_nearWalker cX1_nearWalker 1 [va_rf (some a0)] h10 k n (fun r17 h16 k20 n21 =>
rv h16 r17 17 (f_J22_keySet G h16 r17 (fun r27 h26 =>
rv h26 r27 22 (f_J35_iterator G h26 r27 (fun r33 h32 =>
V G E Y_X1_reach cX1_reach 4 (QM G E (kI K) xN) h32 k20 n21 25 [(1, .int (0 : Int32)), (2, va_rf r33)] []))))) xN)))))
theorem s_X1_reach_0 {G : Gt} {E : Ev} {h : Hp} {k0 n0 : Nat} {a0 : Nat} {K : Int32 → Hp → Prop} (hG : Base G) (hA : 2 ≤ k0) (hB : 7 ≤ n0) (hf : g_X1_reach_0 G E h (k0 - 2) (n0 - 7) a0 K) : V G E Y_X1_reach cX1_reach 4 (QM G E (kI K) xN) h k0 n0 0 [(0, .ref a0)] [] := by
  obtain ⟨k, hk9⟩ : ∃ z, z = k0 - 2 := ⟨_, rfl⟩
  obtain ⟨n, hn9⟩ : ∃ z, z = n0 - 7 := ⟨_, rfl⟩
  rw [← hk9, ← hn9] at hf
  refine V.weak (k' := k + 2) (n' := n + 7) ?_ (by omega) (by omega)
  unfold g_X1_reach_0 at hf
  refine v_iconst (v := 0) dX1_reach_0 (by decide) ?_
  refine v_istore_n (i := 1) (lv' := [(0, .ref a0), (1, .int (0 : Int32))]) dX1_reach_1 rfl (Nat.le_of_ble_eq_true rfl) rfl rfl ?_
  refine v_aload_n (i := 0) dX1_reach_2 rfl rfl ?_
  replace hf := gR_e hf
  obtain ⟨w2, fs3, r1, hh4, hk5, hf⟩ := hf
  refine v_getf (T := TX1) (ci := 1) 0 dX1_reach_3 q188 rfl in_X1 (Nat.le_of_ble_eq_true rfl) (Or.inl rfl) hh4 hk5 ?_
  obtain ⟨a6, rfl⟩ := rv_s hf
  replace hf := rv_e hf
  obtain ⟨w7, fs8, hh9, hf⟩ := hf
  refine V.addK0 ?_
  refine V.addN0 ?_
  refine v_callV (mc := 0) (ms := 0) 0 dX1_reach_6 (m_J2_isEmpty hG hf) rfl hh9 rfl (lw_V q773 q774 q775 q92 q776) rfl (by decide +kernel) (by decide) rfl (cat_len (Nat.le_of_ble_eq_true rfl)) (kk_I fun i11 h10 hg => ?_) (fun _ _ _ hx => hx.elim)
  replace hf := hg
  clear hg
  refine v_if_ne 56 dX1_reach_9 (by decide) (fun c12 => ?_) (fun c12 => ?_)
  · replace hf := hf.1 c12
    refine v_iload_n (i := 1) dX1_reach_56 rfl rfl ?_
    exact v_iret dX1_reach_57 rfl ⟨_, rfl, hf⟩
  · replace hf := hf.2 c12
    refine v_aload_n (i := 0) dX1_reach_12 rfl rfl ?_
    replace hf := rv_e hf
    obtain ⟨w13, fs14, hh15, hf⟩ := hf
    obtain ⟨mc18, ms19, hkmc18, hnms19, hM⟩ := hf
    refine V.weak (k' := ((k - mc18) + 2) + mc18) (n' := ((n - ms19) + 7) + ms19) ?_ (by omega) (by omega)
    refine v_callV 0 dX1_reach_13 hM rfl hh15 rfl (lw_V q1843 q1845 qs34 q89 q1846) rfl (by decide +kernel) (by decide) rfl (cat_len (Nat.le_of_ble_eq_true rfl)) (kk_R fun r17 h16 hg => ?_) (fun _ _ _ hx => hx.elim)
    have hf := hg
    clear hg
    obtain ⟨a22, rfl⟩ := rv_s hf
    replace hf := rv_e hf
    obtain ⟨w23, fs24, hh25, hf⟩ := hf
    refine v_callV (mc := 1) (ms := 2) 0 dX1_reach_16 (m_J22_keySet hG hf) rfl hh25 rfl (lw_V q1847 q1848 q1849 q117 q1850) rfl (by decide +kernel) (by decide) rfl (cat_len (Nat.le_of_ble_eq_true rfl)) (kk_R fun r27 h26 hg => ?_) (fun _ _ _ hx => hx.elim)
    replace hf := hg
    clear hg
    obtain ⟨a28, rfl⟩ := rv_s hf
    replace hf := rv_e hf
    obtain ⟨w29, fs30, hh31, hf⟩ := hf
    refine v_callF (mc := 1) (ms := 5) 0 dX1_reach_19 (m_J35_iterator hG hf) rfl hh31 rfl (lw_F q1870 q1905 q1907 q133 q1909) (fun C9 => v_Fw C9 (by decide) q1872 q1871 q1908 q1906 q1904) rfl (by decide +kernel) (by decide) rfl (cat_len (Nat.le_of_ble_eq_true rfl)) (kk_R fun r33 h32 hg => ?_) (fun _ _ _ hx => hx.elim)
    replace hf := hg
    clear hg
    refine v_qstore_n (i := 2) (r := r33) (lv' := [(0, .ref a0), (1, .int (0 : Int32)), (2, va_rf r33)]) dX1_reach_24 rfl (Nat.le_of_ble_eq_true rfl) rfl rfl ?_
    refine V.lp (lv' := [(1, .int (0 : Int32)), (2, va_rf r33)]) [1, 2] rfl ?_
    exact V.weak hf (by omega) (by omega)
def g_X1_reach_25 (G : Gt) (E : Ev) (h : Hp) (k n : Nat) (i_1 : Int32) (r_2 : Option Nat) (K : Int32 → Hp → Prop) : Prop :=
rv h r_2 23 (f_J38_hasNext G h r_2 (fun i6 h5 =>
((i6 = 0 → K i_1 h5) ∧
(¬ (i6 = 0) → rv h5 r_2 23 (f_J39_next G h5 r_2 (fun r12 h11 =>
(oc h11 r12 6 ∧ gI h11 r12 6 0 fun i13 =>
V G E Y_X1_reach cX1_reach 4 (QM G E (kI K) xN) h11 k n 25 [(1, .int (i_1 ||| ((1 : Int32) <<< (i13 &&& 31)))), (2, va_rf r_2)] [])))))))
theorem s_X1_reach_25 {G : Gt} {E : Ev} {h : Hp} {k0 n0 : Nat} {i_1 : Int32} {r_2 : Option Nat} {K : Int32 → Hp → Prop} (hG : Base G) (hA : 0 ≤ k0) (hB : 0 ≤ n0) (hf : g_X1_reach_25 G E h (k0 - 0) (n0 - 0) i_1 r_2 K) : V G E Y_X1_reach cX1_reach 4 (QM G E (kI K) xN) h k0 n0 25 [(1, .int i_1), (2, va_rf r_2)] [] := by
  obtain ⟨k, hk9⟩ : ∃ z, z = k0 - 0 := ⟨_, rfl⟩
  obtain ⟨n, hn9⟩ : ∃ z, z = n0 - 0 := ⟨_, rfl⟩
  rw [← hk9, ← hn9] at hf
  refine V.weak (k' := k + 0) (n' := n + 0) ?_ (by omega) (by omega)
  unfold g_X1_reach_25 at hf
  refine v_qload_n (r := r_2) (i := 2) dX1_reach_25 rfl rfl ?_
  obtain ⟨a1, rfl⟩ := rv_s hf
  replace hf := rv_e hf
  obtain ⟨w2, fs3, hh4, hf⟩ := hf
  refine V.addK0 ?_
  refine V.addN0 ?_
  refine v_callF (mc := 0) (ms := 0) 0 dX1_reach_26 (m_J38_hasNext hG hf) rfl hh4 rfl (lw_F q339 q355 q357 q136 q359) (fun C9 => v_Fw C9 (by decide) q341 q340 q358 q356 q354) rfl (by decide +kernel) (by decide) rfl (cat_len (Nat.le_of_ble_eq_true rfl)) (kk_I fun i6 h5 hg => ?_) (fun _ _ _ hx => hx.elim)
  replace hf := hg
  clear hg
  refine v_if_eq 56 dX1_reach_31 (by decide) (fun c7 => ?_) (fun c7 => ?_)
  · replace hf := hf.1 c7
    refine v_iload_n (i := 1) dX1_reach_56 rfl rfl ?_
    exact v_iret dX1_reach_57 rfl ⟨_, rfl, hf⟩
  · replace hf := hf.2 c7
    refine v_qload_n (r := (some a1)) (i := 2) dX1_reach_34 rfl rfl ?_
    replace hf := rv_e hf
    obtain ⟨w8, fs9, hh10, hf⟩ := hf
    refine V.addK0 ?_
    refine V.addN0 ?_
    refine v_callF (mc := 0) (ms := 0) 0 dX1_reach_35 (m_J39_next hG hf) rfl hh10 rfl (lw_F q361 q384 q386 q137 q388) (fun C9 => v_Fw C9 (by decide) q363 q362 q387 q385 q354) rfl (by decide +kernel) (by decide) rfl (cat_len (Nat.le_of_ble_eq_true rfl)) (kk_R fun r12 h11 hg => ?_) (fun _ _ _ hx => hx.elim)
    replace hf := hg
    clear hg
    obtain ⟨hoc, hf⟩ := hf
    refine v_castQS (r := r12) dX1_reach_40 q886 hoc rfl ?_
    refine v_qstore_n (i := 3) (r := r12) (lv' := [(1, .int i_1), (2, va_rf (some a1)), (3, va_rf r12)]) dX1_reach_43 rfl (Nat.le_of_ble_eq_true rfl) rfl rfl ?_
    refine v_iload_n (i := 1) dX1_reach_44 rfl rfl ?_
    refine v_iconst (v := 1) dX1_reach_45 (by decide) ?_
    refine v_qload_n (r := r12) (i := 3) dX1_reach_46 rfl rfl ?_
    obtain ⟨a14, rfl⟩ := gI_s hf
    replace hf := gI_e hf
    obtain ⟨w15, fs16, i13, hh17, hk18, hf⟩ := hf
    refine v_getfN (T := TX6) (ci := 6) 0 dX1_reach_47 q893 rfl in_X6 (Nat.le_of_ble_eq_true rfl) (Or.inl rfl) hh17 hk18 ?_
    refine v_ishl dX1_reach_50 ?_
    refine v_ior dX1_reach_51 ?_
    refine v_istore_n (i := 1) (lv' := [(1, .int (i_1 ||| ((1 : Int32) <<< (i13 &&& 31)))), (2, va_rf (some a1)), (3, va_rf (some a14))]) dX1_reach_52 rfl (Nat.le_of_ble_eq_true rfl) rfl rfl ?_
    refine v_goto 25 dX1_reach_53 (by decide) ?_
    refine V.lp (lv' := [(1, .int (i_1 ||| ((1 : Int32) <<< (i13 &&& 31)))), (2, va_rf (some a1))]) [0, 1] rfl ?_
    exact V.weak hf (by omega) (by omega)
theorem b_X1_reach {G : Gt} {h : Hp} {mc ms : Nat} {a0 : Nat} {K : Int32 → Hp → Prop} (hG : Base G) (hf : ∀ E : Ev, V G E Y_X1_reach cX1_reach 4 (QM G E (kI K) xN) h mc ms 0 [(0, .ref a0)] []) : MM G Y_X1_reach cX1_reach 4 mc ms [.ref a0] h (kI K) xN := mm_of hG (by decide +kernel) rfl (ac_c rfl ac_nil) (Nat.le_of_ble_eq_true rfl) (fun E _ _ => hf E)
abbrev Y_X1_nearestKey : Yt := (yX1_nearestKey, some (.int), 8, 217, [])
def g_X1_nearestKey_0 (G : Gt) (E : Ev) (h : Hp) (k n : Nat) (a0 : Nat) (i_1 : Int32) (K : Int32 → Hp → Prop) : Prop :=
gR h (some a0) 1 0 fun r1 =>
rv h r1 10 (f_J2_isEmpty G h r1 (fun i11 h10 =>
((i11 = 0 → rv h10 (some a0) 1 (dR G Y_X1_nearWalker cX1_nearWalker 1 [va_rf (some a0)] h10 k n (fun r17 h16 k20 n21 =>
V G E Y_X1_nearestKey cX1_nearestKey 6 (QM G E (kI K) xN) h16 k20 n21 26 [(0, .ref a0), (1, .int i_1), (2, va_rf r17), (3, .int (-1015 : Int32)), (4, .int (0 : Int32))] []) xN)) ∧
(¬ (i11 = 0) → K (-1015 : Int32) h10))))
theorem s_X1_nearestKey_0 {G : Gt} {E : Ev} {h : Hp} {k0 n0 : Nat} {a0 : Nat} {i_1 : Int32} {K : Int32 → Hp → Prop} (hG : Base G) (hA : 0 ≤ k0) (hB : 0 ≤ n0) (hf : g_X1_nearestKey_0 G E h (k0 - 0) (n0 - 0) a0 i_1 K) : V G E Y_X1_nearestKey cX1_nearestKey 6 (QM G E (kI K) xN) h k0 n0 0 [(0, .ref a0), (1, .int i_1)] [] := by
  obtain ⟨k, hk9⟩ : ∃ z, z = k0 - 0 := ⟨_, rfl⟩
  obtain ⟨n, hn9⟩ : ∃ z, z = n0 - 0 := ⟨_, rfl⟩
  rw [← hk9, ← hn9] at hf
  refine V.weak (k' := k + 0) (n' := n + 0) ?_ (by omega) (by omega)
  unfold g_X1_nearestKey_0 at hf
  refine v_aload_n (i := 0) dX1_nearestKey_0 rfl rfl ?_
  replace hf := gR_e hf
  obtain ⟨w2, fs3, r1, hh4, hk5, hf⟩ := hf
  refine v_getf (T := TX1) (ci := 1) 0 dX1_nearestKey_1 q188 rfl in_X1 (Nat.le_of_ble_eq_true rfl) (Or.inl rfl) hh4 hk5 ?_
  obtain ⟨a6, rfl⟩ := rv_s hf
  replace hf := rv_e hf
  obtain ⟨w7, fs8, hh9, hf⟩ := hf
  refine V.addK0 ?_
  refine V.addN0 ?_
  refine v_callV (mc := 0) (ms := 0) 0 dX1_nearestKey_4 (m_J2_isEmpty hG hf) rfl hh9 rfl (lw_V q773 q774 q775 q92 q776) rfl (by decide +kernel) (by decide) rfl (cat_len (Nat.le_of_ble_eq_true rfl)) (kk_I fun i11 h10 hg => ?_) (fun _ _ _ hx => hx.elim)
  replace hf := hg
  clear hg
  refine v_if_eq 14 dX1_nearestKey_7 (by decide) (fun c12 => ?_) (fun c12 => ?_)
  · replace hf := hf.1 c12
    refine v_aload_n (i := 0) dX1_nearestKey_14 rfl rfl ?_
    replace hf := rv_e hf
    obtain ⟨w13, fs14, hh15, hf⟩ := hf
    obtain ⟨mc18, ms19, hkmc18, hnms19, hM⟩ := hf
    refine V.weak (k' := ((k - mc18) + 0) + mc18) (n' := ((n - ms19) + 0) + ms19) ?_ (by omega) (by omega)
    refine v_callV 0 dX1_nearestKey_15 hM rfl hh15 rfl (lw_V q1843 q1845 qs34 q89 q1846) rfl (by decide +kernel) (by decide) rfl (cat_len (Nat.le_of_ble_eq_true rfl)) (kk_R fun r17 h16 hg => ?_) (fun _ _ _ hx => hx.elim)
    have hf := hg
    clear hg
    refine v_qstore_n (i := 2) (r := r17) (lv' := [(0, .ref a0), (1, .int i_1), (2, va_rf r17)]) dX1_nearestKey_18 rfl (Nat.le_of_ble_eq_true rfl) rfl rfl ?_
    refine v_sipush (v := -1015) dX1_nearestKey_19 (by decide) ?_
    refine v_istore_n (i := 3) (lv' := [(0, .ref a0), (1, .int i_1), (2, va_rf r17), (3, .int (-1015 : Int32))]) dX1_nearestKey_22 rfl (Nat.le_of_ble_eq_true rfl) rfl rfl ?_
    refine v_iconst (v := 0) dX1_nearestKey_23 (by decide) ?_
    refine v_istore (i := 4) (lv' := [(0, .ref a0), (1, .int i_1), (2, va_rf r17), (3, .int (-1015 : Int32)), (4, .int (0 : Int32))]) dX1_nearestKey_24 (Nat.le_of_ble_eq_true rfl) rfl rfl ?_
    exact V.weak hf (by omega) (by omega)
  · replace hf := hf.2 c12
    refine v_sipush (v := -1015) dX1_nearestKey_10 (by decide) ?_
    exact v_iret dX1_nearestKey_13 rfl ⟨_, rfl, hf⟩
def g_X1_nearestKey_26 (G : Gt) (E : Ev) (h : Hp) (k n : Nat) (a0 : Nat) (i_1 : Int32) (r_2 : Option Nat) (i_3 : Int32) (i_4 : Int32) (K : Int32 → Hp → Prop) : Prop :=
rv h (some a0) 1 (f_X1_many G h (some a0) (fun i5 h4 =>
((i5 ≤ i_4 → K i_3 h4) ∧
(¬ (i5 ≤ i_4) → gR h4 (some a0) 1 0 fun r7 =>
rv h4 r7 10 (f_J2_get G h4 r7 i_4 (fun r17 h16 =>
(oc h16 r17 3 ∧ gR h16 r17 3 0 fun r18 =>
aI h16 r18 0 i_1 fun i30 =>
((¬ (i30 = 0) → dI G Y_X1_fewest cX1_fewest 5 [va_rf r_2, .int i_4] h16 k n (fun i33 h32 k36 n37 =>
((i33 = (-1015 : Int32) → V G E Y_X1_nearestKey cX1_nearestKey 6 (QM G E (kI K) xN) h32 k36 n37 26 [(0, .ref a0), (1, .int i_1), (2, va_rf r_2), (3, .int i_3), (4, .int (i_4 + (1 : Int32)))] []) ∧
(¬ (i33 = (-1015 : Int32)) → ((i_3 = (-1015 : Int32) → V G E Y_X1_nearestKey cX1_nearestKey 6 (QM G E (kI K) xN) h32 k36 n37 26 [(0, .ref a0), (1, .int i_1), (2, va_rf r_2), (3, .int i_4), (4, .int (i_4 + (1 : Int32)))] []) ∧
(¬ (i_3 = (-1015 : Int32)) → dI G Y_X1_fewest cX1_fewest 5 [va_rf r_2, .int i_3] h32 k36 n37 (fun i41 h40 k44 n45 =>
((i41 ≤ i33 → V G E Y_X1_nearestKey cX1_nearestKey 6 (QM G E (kI K) xN) h40 k44 n45 26 [(0, .ref a0), (1, .int i_1), (2, va_rf r_2), (3, .int i_3), (4, .int (i_4 + (1 : Int32)))] []) ∧
(¬ (i41 ≤ i33) → V G E Y_X1_nearestKey cX1_nearestKey 6 (QM G E (kI K) xN) h40 k44 n45 26 [(0, .ref a0), (1, .int i_1), (2, va_rf r_2), (3, .int i_4), (4, .int (i_4 + (1 : Int32)))] []))) xN))))) xN) ∧
(i30 = 0 → (((-1015 : Int32) = (-1015 : Int32) → V G E Y_X1_nearestKey cX1_nearestKey 6 (QM G E (kI K) xN) h16 k n 26 [(0, .ref a0), (1, .int i_1), (2, va_rf r_2), (3, .int i_3), (4, .int (i_4 + (1 : Int32)))] []) ∧
(¬ ((-1015 : Int32) = (-1015 : Int32)) → ((i_3 = (-1015 : Int32) → V G E Y_X1_nearestKey cX1_nearestKey 6 (QM G E (kI K) xN) h16 k n 26 [(0, .ref a0), (1, .int i_1), (2, va_rf r_2), (3, .int i_4), (4, .int (i_4 + (1 : Int32)))] []) ∧
(¬ (i_3 = (-1015 : Int32)) → dI G Y_X1_fewest cX1_fewest 5 [va_rf r_2, .int i_3] h16 k n (fun i50 h49 k53 n54 =>
((i50 ≤ (-1015 : Int32) → V G E Y_X1_nearestKey cX1_nearestKey 6 (QM G E (kI K) xN) h49 k53 n54 26 [(0, .ref a0), (1, .int i_1), (2, va_rf r_2), (3, .int i_3), (4, .int (i_4 + (1 : Int32)))] []) ∧
(¬ (i50 ≤ (-1015 : Int32)) → V G E Y_X1_nearestKey cX1_nearestKey 6 (QM G E (kI K) xN) h49 k53 n54 26 [(0, .ref a0), (1, .int i_1), (2, va_rf r_2), (3, .int i_4), (4, .int (i_4 + (1 : Int32)))] []))) xN)))))))))))))
theorem s_X1_nearestKey_26 {G : Gt} {E : Ev} {h : Hp} {k0 n0 : Nat} {a0 : Nat} {i_1 : Int32} {r_2 : Option Nat} {i_3 : Int32} {i_4 : Int32} {K : Int32 → Hp → Prop} (hG : Base G) (hA : 0 ≤ k0) (hB : 0 ≤ n0) (hf : g_X1_nearestKey_26 G E h (k0 - 0) (n0 - 0) a0 i_1 r_2 i_3 i_4 K) : V G E Y_X1_nearestKey cX1_nearestKey 6 (QM G E (kI K) xN) h k0 n0 26 [(0, .ref a0), (1, .int i_1), (2, va_rf r_2), (3, .int i_3), (4, .int i_4)] [] := by
  obtain ⟨k, hk9⟩ : ∃ z, z = k0 - 0 := ⟨_, rfl⟩
  obtain ⟨n, hn9⟩ : ∃ z, z = n0 - 0 := ⟨_, rfl⟩
  rw [← hk9, ← hn9] at hf
  refine V.weak (k' := k + 0) (n' := n + 0) ?_ (by omega) (by omega)
  unfold g_X1_nearestKey_26 at hf
  refine v_iload (i := 4) dX1_nearestKey_26 rfl ?_
  refine v_aload_n (i := 0) dX1_nearestKey_28 rfl rfl ?_
  replace hf := rv_e hf
  obtain ⟨w1, fs2, hh3, hf⟩ := hf
  refine V.addK0 ?_
  refine V.addN0 ?_
  refine v_callV (mc := 0) (ms := 0) 0 dX1_nearestKey_29 (m_X1_many hG hf) rfl hh3 rfl (lw_V q504 q505 q506 q89 q507) rfl (by decide +kernel) (by decide) rfl (cat_len (Nat.le_of_ble_eq_true rfl)) (kk_I fun i5 h4 hg => ?_) (fun _ _ _ hx => hx.elim)
  replace hf := hg
  clear hg
  refine v_icmp_ge 107 dX1_nearestKey_32 (by decide) (fun c6 => ?_) (fun c6 => ?_)
  · replace hf := hf.1 c6
    refine v_iload_n (i := 3) dX1_nearestKey_107 rfl rfl ?_
    exact v_iret dX1_nearestKey_108 rfl ⟨_, rfl, hf⟩
  · replace hf := hf.2 c6
    refine v_aload_n (i := 0) dX1_nearestKey_35 rfl rfl ?_
    replace hf := gR_e hf
    obtain ⟨w8, fs9, r7, hh10, hk11, hf⟩ := hf
    refine v_getf (T := TX1) (ci := 1) 0 dX1_nearestKey_36 q188 rfl in_X1 (Nat.le_of_ble_eq_true rfl) (Or.inl rfl) hh10 hk11 ?_
    refine v_iload (i := 4) dX1_nearestKey_39 rfl ?_
    obtain ⟨a12, rfl⟩ := rv_s hf
    replace hf := rv_e hf
    obtain ⟨w13, fs14, hh15, hf⟩ := hf
    refine V.addK0 ?_
    refine V.addN0 ?_
    refine v_callV (mc := 0) (ms := 0) 1 dX1_nearestKey_41 (m_J2_get hG hf) rfl hh15 rfl (lw_V q660 q661 q662 q92 q663) rfl (by decide +kernel) (by decide) rfl (cat_len (Nat.le_of_ble_eq_true rfl)) (kk_R fun r17 h16 hg => ?_) (fun _ _ _ hx => hx.elim)
    replace hf := hg
    clear hg
    obtain ⟨hoc, hf⟩ := hf
    refine v_castQS (r := r17) dX1_nearestKey_44 q402 hoc rfl ?_
    obtain ⟨a19, rfl⟩ := gR_s hf
    replace hf := gR_e hf
    obtain ⟨w20, fs21, r18, hh22, hk23, hf⟩ := hf
    refine v_getfN (T := TX3) (ci := 3) 0 dX1_nearestKey_47 q414 rfl in_X3 (Nat.le_of_ble_eq_true rfl) (Or.inl rfl) hh22 hk23 ?_
    refine v_iload_n (i := 1) dX1_nearestKey_50 rfl rfl ?_
    obtain ⟨a24, rfl⟩ := aI_s hf
    replace hf := aI_e hf
    obtain ⟨w25, N26, f27, hh28, hi29, i30, ei30, hf⟩ := hf
    refine v_iald dX1_nearestKey_51 hh28 hi29 ?_
    rw [← ei30]
    refine v_if_ne 61 dX1_nearestKey_52 (by decide) (fun c31 => ?_) (fun c31 => ?_)
    · replace hf := hf.1 c31
      refine v_qload_n (r := r_2) (i := 2) dX1_nearestKey_61 rfl rfl ?_
      refine v_iload (i := 4) dX1_nearestKey_62 rfl ?_
      obtain ⟨mc34, ms35, hkmc34, hnms35, hM⟩ := hf
      refine V.weak (k' := ((k - mc34) + 0) + mc34) (n' := ((n - ms35) + 0) + ms35) ?_ (by omega) (by omega)
      refine v_callS 2 dX1_nearestKey_64 hM rfl (lw_S q1648 q1649 q89 q1650) rfl (by decide +kernel) (by decide) rfl (cat_len (Nat.le_of_ble_eq_true rfl)) (kk_I fun i33 h32 hg => ?_) (fun _ _ _ hx => hx.elim)
      have hf := hg
      clear hg
      refine v_istore (i := 5) (lv' := [(0, .ref a0), (1, .int i_1), (2, va_rf r_2), (3, .int i_3), (4, .int i_4), (5, .int i33)]) dX1_nearestKey_67 (Nat.le_of_ble_eq_true rfl) rfl rfl ?_
      refine v_iload (i := 5) dX1_nearestKey_69 rfl ?_
      refine v_sipush (v := -1015) dX1_nearestKey_71 (by decide) ?_
      refine v_icmp_eq 99 dX1_nearestKey_74 (by decide) (fun c38 => ?_) (fun c38 => ?_)
      · replace hf := hf.1 c38
        refine v_iload_n (i := 3) dX1_nearestKey_99 rfl rfl ?_
        refine v_istore_n (i := 3) (lv' := [(0, .ref a0), (1, .int i_1), (2, va_rf r_2), (3, .int i_3), (4, .int i_4), (5, .int i33)]) dX1_nearestKey_100 rfl (Nat.le_of_ble_eq_true rfl) rfl rfl ?_
        refine v_iinc (i := 4) (v := i_4 + (1 : Int32)) (lv' := [(0, .ref a0), (1, .int i_1), (2, va_rf r_2), (3, .int i_3), (4, .int (i_4 + (1 : Int32))), (5, .int i33)]) dX1_nearestKey_101 rfl rfl (Nat.le_of_ble_eq_true rfl) rfl rfl ?_
        refine v_goto 26 dX1_nearestKey_104 (by decide) ?_
        refine V.lp (lv' := [(0, .ref a0), (1, .int i_1), (2, va_rf r_2), (3, .int i_3), (4, .int (i_4 + (1 : Int32)))]) [0, 1, 2, 3, 4] rfl ?_
        exact V.weak hf (by omega) (by omega)
      · replace hf := hf.2 c38
        refine v_iload_n (i := 3) dX1_nearestKey_77 rfl rfl ?_
        refine v_sipush (v := -1015) dX1_nearestKey_78 (by decide) ?_
        refine v_icmp_eq 94 dX1_nearestKey_81 (by decide) (fun c39 => ?_) (fun c39 => ?_)
        · replace hf := hf.1 c39
          refine v_iload (i := 4) dX1_nearestKey_94 rfl ?_
          refine v_goto 100 dX1_nearestKey_96 (by decide) ?_
          refine v_istore_n (i := 3) (lv' := [(0, .ref a0), (1, .int i_1), (2, va_rf r_2), (3, .int i_4), (4, .int i_4), (5, .int i33)]) dX1_nearestKey_100 rfl (Nat.le_of_ble_eq_true rfl) rfl rfl ?_
          refine v_iinc (i := 4) (v := i_4 + (1 : Int32)) (lv' := [(0, .ref a0), (1, .int i_1), (2, va_rf r_2), (3, .int i_4), (4, .int (i_4 + (1 : Int32))), (5, .int i33)]) dX1_nearestKey_101 rfl rfl (Nat.le_of_ble_eq_true rfl) rfl rfl ?_
          refine v_goto 26 dX1_nearestKey_104 (by decide) ?_
          refine V.lp (lv' := [(0, .ref a0), (1, .int i_1), (2, va_rf r_2), (3, .int i_4), (4, .int (i_4 + (1 : Int32)))]) [0, 1, 2, 3, 4] rfl ?_
          exact V.weak hf (by omega) (by omega)
        · replace hf := hf.2 c39
          refine v_iload (i := 5) dX1_nearestKey_84 rfl ?_
          refine v_qload_n (r := r_2) (i := 2) dX1_nearestKey_86 rfl rfl ?_
          refine v_iload_n (i := 3) dX1_nearestKey_87 rfl rfl ?_
          obtain ⟨mc42, ms43, hkmc42, hnms43, hM⟩ := hf
          refine V.weak (k' := (((k - mc34) - mc42) + 0) + mc42) (n' := (((n - ms35) - ms43) + 0) + ms43) ?_ (by omega) (by omega)
          refine v_callS 2 dX1_nearestKey_88 hM rfl (lw_S q1648 q1649 q89 q1650) rfl (by decide +kernel) (by decide) rfl (cat_len (Nat.le_of_ble_eq_true rfl)) (kk_I fun i41 h40 hg => ?_) (fun _ _ _ hx => hx.elim)
          have hf := hg
          clear hg
          refine v_icmp_ge 99 dX1_nearestKey_91 (by decide) (fun c46 => ?_) (fun c46 => ?_)
          · replace hf := hf.1 c46
            refine v_iload_n (i := 3) dX1_nearestKey_99 rfl rfl ?_
            refine v_istore_n (i := 3) (lv' := [(0, .ref a0), (1, .int i_1), (2, va_rf r_2), (3, .int i_3), (4, .int i_4), (5, .int i33)]) dX1_nearestKey_100 rfl (Nat.le_of_ble_eq_true rfl) rfl rfl ?_
            refine v_iinc (i := 4) (v := i_4 + (1 : Int32)) (lv' := [(0, .ref a0), (1, .int i_1), (2, va_rf r_2), (3, .int i_3), (4, .int (i_4 + (1 : Int32))), (5, .int i33)]) dX1_nearestKey_101 rfl rfl (Nat.le_of_ble_eq_true rfl) rfl rfl ?_
            refine v_goto 26 dX1_nearestKey_104 (by decide) ?_
            refine V.lp (lv' := [(0, .ref a0), (1, .int i_1), (2, va_rf r_2), (3, .int i_3), (4, .int (i_4 + (1 : Int32)))]) [0, 1, 2, 3, 4] rfl ?_
            exact V.weak hf (by omega) (by omega)
          · replace hf := hf.2 c46
            refine v_iload (i := 4) dX1_nearestKey_94 rfl ?_
            refine v_goto 100 dX1_nearestKey_96 (by decide) ?_
            refine v_istore_n (i := 3) (lv' := [(0, .ref a0), (1, .int i_1), (2, va_rf r_2), (3, .int i_4), (4, .int i_4), (5, .int i33)]) dX1_nearestKey_100 rfl (Nat.le_of_ble_eq_true rfl) rfl rfl ?_
            refine v_iinc (i := 4) (v := i_4 + (1 : Int32)) (lv' := [(0, .ref a0), (1, .int i_1), (2, va_rf r_2), (3, .int i_4), (4, .int (i_4 + (1 : Int32))), (5, .int i33)]) dX1_nearestKey_101 rfl rfl (Nat.le_of_ble_eq_true rfl) rfl rfl ?_
            refine v_goto 26 dX1_nearestKey_104 (by decide) ?_
            refine V.lp (lv' := [(0, .ref a0), (1, .int i_1), (2, va_rf r_2), (3, .int i_4), (4, .int (i_4 + (1 : Int32)))]) [0, 1, 2, 3, 4] rfl ?_
            exact V.weak hf (by omega) (by omega)
    · replace hf := hf.2 c31
      refine v_sipush (v := -1015) dX1_nearestKey_55 (by decide) ?_
      refine v_goto 67 dX1_nearestKey_58 (by decide) ?_
      refine v_istore (i := 5) (lv' := [(0, .ref a0), (1, .int i_1), (2, va_rf r_2), (3, .int i_3), (4, .int i_4), (5, .int (-1015 : Int32))]) dX1_nearestKey_67 (Nat.le_of_ble_eq_true rfl) rfl rfl ?_
      refine v_iload (i := 5) dX1_nearestKey_69 rfl ?_
      refine v_sipush (v := -1015) dX1_nearestKey_71 (by decide) ?_
      refine v_icmp_eq 99 dX1_nearestKey_74 (by decide) (fun c47 => ?_) (fun c47 => ?_)
      · replace hf := hf.1 c47
        refine v_iload_n (i := 3) dX1_nearestKey_99 rfl rfl ?_
        refine v_istore_n (i := 3) (lv' := [(0, .ref a0), (1, .int i_1), (2, va_rf r_2), (3, .int i_3), (4, .int i_4), (5, .int (-1015 : Int32))]) dX1_nearestKey_100 rfl (Nat.le_of_ble_eq_true rfl) rfl rfl ?_
        refine v_iinc (i := 4) (v := i_4 + (1 : Int32)) (lv' := [(0, .ref a0), (1, .int i_1), (2, va_rf r_2), (3, .int i_3), (4, .int (i_4 + (1 : Int32))), (5, .int (-1015 : Int32))]) dX1_nearestKey_101 rfl rfl (Nat.le_of_ble_eq_true rfl) rfl rfl ?_
        refine v_goto 26 dX1_nearestKey_104 (by decide) ?_
        refine V.lp (lv' := [(0, .ref a0), (1, .int i_1), (2, va_rf r_2), (3, .int i_3), (4, .int (i_4 + (1 : Int32)))]) [0, 1, 2, 3, 4] rfl ?_
        exact V.weak hf (by omega) (by omega)
      · replace hf := hf.2 c47
        refine v_iload_n (i := 3) dX1_nearestKey_77 rfl rfl ?_
        refine v_sipush (v := -1015) dX1_nearestKey_78 (by decide) ?_
        refine v_icmp_eq 94 dX1_nearestKey_81 (by decide) (fun c48 => ?_) (fun c48 => ?_)
        · replace hf := hf.1 c48
          refine v_iload (i := 4) dX1_nearestKey_94 rfl ?_
          refine v_goto 100 dX1_nearestKey_96 (by decide) ?_
          refine v_istore_n (i := 3) (lv' := [(0, .ref a0), (1, .int i_1), (2, va_rf r_2), (3, .int i_4), (4, .int i_4), (5, .int (-1015 : Int32))]) dX1_nearestKey_100 rfl (Nat.le_of_ble_eq_true rfl) rfl rfl ?_
          refine v_iinc (i := 4) (v := i_4 + (1 : Int32)) (lv' := [(0, .ref a0), (1, .int i_1), (2, va_rf r_2), (3, .int i_4), (4, .int (i_4 + (1 : Int32))), (5, .int (-1015 : Int32))]) dX1_nearestKey_101 rfl rfl (Nat.le_of_ble_eq_true rfl) rfl rfl ?_
          refine v_goto 26 dX1_nearestKey_104 (by decide) ?_
          refine V.lp (lv' := [(0, .ref a0), (1, .int i_1), (2, va_rf r_2), (3, .int i_4), (4, .int (i_4 + (1 : Int32)))]) [0, 1, 2, 3, 4] rfl ?_
          exact V.weak hf (by omega) (by omega)
        · replace hf := hf.2 c48
          refine v_iload (i := 5) dX1_nearestKey_84 rfl ?_
          refine v_qload_n (r := r_2) (i := 2) dX1_nearestKey_86 rfl rfl ?_
          refine v_iload_n (i := 3) dX1_nearestKey_87 rfl rfl ?_
          obtain ⟨mc51, ms52, hkmc51, hnms52, hM⟩ := hf
          refine V.weak (k' := ((k - mc51) + 0) + mc51) (n' := ((n - ms52) + 0) + ms52) ?_ (by omega) (by omega)
          refine v_callS 2 dX1_nearestKey_88 hM rfl (lw_S q1648 q1649 q89 q1650) rfl (by decide +kernel) (by decide) rfl (cat_len (Nat.le_of_ble_eq_true rfl)) (kk_I fun i50 h49 hg => ?_) (fun _ _ _ hx => hx.elim)
          have hf := hg
          clear hg
          refine v_icmp_ge 99 dX1_nearestKey_91 (by decide) (fun c55 => ?_) (fun c55 => ?_)
          · replace hf := hf.1 c55
            refine v_iload_n (i := 3) dX1_nearestKey_99 rfl rfl ?_
            refine v_istore_n (i := 3) (lv' := [(0, .ref a0), (1, .int i_1), (2, va_rf r_2), (3, .int i_3), (4, .int i_4), (5, .int (-1015 : Int32))]) dX1_nearestKey_100 rfl (Nat.le_of_ble_eq_true rfl) rfl rfl ?_
            refine v_iinc (i := 4) (v := i_4 + (1 : Int32)) (lv' := [(0, .ref a0), (1, .int i_1), (2, va_rf r_2), (3, .int i_3), (4, .int (i_4 + (1 : Int32))), (5, .int (-1015 : Int32))]) dX1_nearestKey_101 rfl rfl (Nat.le_of_ble_eq_true rfl) rfl rfl ?_
            refine v_goto 26 dX1_nearestKey_104 (by decide) ?_
            refine V.lp (lv' := [(0, .ref a0), (1, .int i_1), (2, va_rf r_2), (3, .int i_3), (4, .int (i_4 + (1 : Int32)))]) [0, 1, 2, 3, 4] rfl ?_
            exact V.weak hf (by omega) (by omega)
          · replace hf := hf.2 c55
            refine v_iload (i := 4) dX1_nearestKey_94 rfl ?_
            refine v_goto 100 dX1_nearestKey_96 (by decide) ?_
            refine v_istore_n (i := 3) (lv' := [(0, .ref a0), (1, .int i_1), (2, va_rf r_2), (3, .int i_4), (4, .int i_4), (5, .int (-1015 : Int32))]) dX1_nearestKey_100 rfl (Nat.le_of_ble_eq_true rfl) rfl rfl ?_
            refine v_iinc (i := 4) (v := i_4 + (1 : Int32)) (lv' := [(0, .ref a0), (1, .int i_1), (2, va_rf r_2), (3, .int i_4), (4, .int (i_4 + (1 : Int32))), (5, .int (-1015 : Int32))]) dX1_nearestKey_101 rfl rfl (Nat.le_of_ble_eq_true rfl) rfl rfl ?_
            refine v_goto 26 dX1_nearestKey_104 (by decide) ?_
            refine V.lp (lv' := [(0, .ref a0), (1, .int i_1), (2, va_rf r_2), (3, .int i_4), (4, .int (i_4 + (1 : Int32)))]) [0, 1, 2, 3, 4] rfl ?_
            exact V.weak hf (by omega) (by omega)
theorem b_X1_nearestKey {G : Gt} {h : Hp} {mc ms : Nat} {a0 : Nat} {i_1 : Int32} {K : Int32 → Hp → Prop} (hG : Base G) (hf : ∀ E : Ev, V G E Y_X1_nearestKey cX1_nearestKey 6 (QM G E (kI K) xN) h mc ms 0 [(0, .ref a0), (1, .int i_1)] []) : MM G Y_X1_nearestKey cX1_nearestKey 6 mc ms [.ref a0, .int i_1] h (kI K) xN := mm_of hG (by decide +kernel) rfl (ac_c rfl (ac_c rfl ac_nil)) (Nat.le_of_ble_eq_true rfl) (fun E _ _ => hf E)
abbrev Y_X1_isNearer : Yt := (yX1_isNearer, some (.boolean), 6, 154, [])
def f_X1_isNearer (G : Gt) (h : Hp) (k n : Nat) (r_0 : Option Nat) (i_1 : Int32) (i_2 : Int32) (K : Int32 → Hp → Prop) : Prop :=
dI G Y_X1_fewest cX1_fewest 5 [va_rf r_0, .int i_1] h k n (fun i2 h1 k5 n6 =>
dI G Y_X1_fewest cX1_fewest 5 [va_rf r_0, .int i_2] h1 k5 n6 (fun i8 h7 k11 n12 =>
((¬ (i8 = (-1015 : Int32)) → ((¬ (i2 = (-1015 : Int32)) → ((i8 - i2 = 0 → ((i_2 ≤ i_1 → K (0 : Int32) h7) ∧
(¬ (i_2 ≤ i_1) → K (1 : Int32) h7))) ∧
(¬ (i8 - i2 = 0) → ((i8 - i2 ≤ 0 → K (0 : Int32) h7) ∧
(¬ (i8 - i2 ≤ 0) → K (1 : Int32) h7))))) ∧
(i2 = (-1015 : Int32) → ((i8 - (10000 : Int32) = 0 → ((i_2 ≤ i_1 → K (0 : Int32) h7) ∧
(¬ (i_2 ≤ i_1) → K (1 : Int32) h7))) ∧
(¬ (i8 - (10000 : Int32) = 0) → ((i8 - (10000 : Int32) ≤ 0 → K (0 : Int32) h7) ∧
(¬ (i8 - (10000 : Int32) ≤ 0) → K (1 : Int32) h7))))))) ∧
(i8 = (-1015 : Int32) → ((¬ (i2 = (-1015 : Int32)) → (((10000 : Int32) - i2 = 0 → ((i_2 ≤ i_1 → K (0 : Int32) h7) ∧
(¬ (i_2 ≤ i_1) → K (1 : Int32) h7))) ∧
(¬ ((10000 : Int32) - i2 = 0) → (((10000 : Int32) - i2 ≤ 0 → K (0 : Int32) h7) ∧
(¬ ((10000 : Int32) - i2 ≤ 0) → K (1 : Int32) h7))))) ∧
(i2 = (-1015 : Int32) → (((10000 : Int32) - (10000 : Int32) = 0 → ((i_2 ≤ i_1 → K (0 : Int32) h7) ∧
(¬ (i_2 ≤ i_1) → K (1 : Int32) h7))) ∧
(¬ ((10000 : Int32) - (10000 : Int32) = 0) → (((10000 : Int32) - (10000 : Int32) ≤ 0 → K (0 : Int32) h7) ∧
(¬ ((10000 : Int32) - (10000 : Int32) ≤ 0) → K (1 : Int32) h7))))))))) xN) xN
theorem m_X1_isNearer {G : Gt} {h : Hp} {mc ms : Nat} {r_0 : Option Nat} {i_1 : Int32} {i_2 : Int32} {K : Int32 → Hp → Prop} (hG : Base G) (hA : 0 ≤ mc) (hB : 0 ≤ ms) (hf : f_X1_isNearer G h (mc - 0) (ms - 0) r_0 i_1 i_2 K) : MM G Y_X1_isNearer cX1_isNearer 6 mc ms [va_rf r_0, .int i_1, .int i_2] h (kI K) xN := by
  refine mm_of hG (by decide +kernel) rfl (ac_c (rf_cat _) (ac_c rfl (ac_c rfl ac_nil))) (Nat.le_of_ble_eq_true rfl) (fun E _ _ => ?_)
  obtain ⟨k, hk9⟩ : ∃ z, z = mc - 0 := ⟨_, rfl⟩
  obtain ⟨n, hn9⟩ : ∃ z, z = ms - 0 := ⟨_, rfl⟩
  rw [← hk9, ← hn9] at hf
  refine V.weak (k' := k + 0) (n' := n + 0) ?_ (by omega) (by omega)
  show V G E Y_X1_isNearer cX1_isNearer 6 (QM G E (kI K) xN) h (k + 0) (n + 0) 0 [(0, va_rf r_0), (1, .int i_1), (2, .int i_2)] []
  unfold f_X1_isNearer at hf
  refine v_qload_n (r := r_0) (i := 0) dX1_isNearer_0 rfl rfl ?_
  refine v_iload_n (i := 1) dX1_isNearer_1 rfl rfl ?_
  obtain ⟨mc3, ms4, hkmc3, hnms4, hM⟩ := hf
  refine V.weak (k' := ((k - mc3) + 0) + mc3) (n' := ((n - ms4) + 0) + ms4) ?_ (by omega) (by omega)
  refine v_callS 2 dX1_isNearer_2 hM rfl (lw_S q1648 q1649 q89 q1650) rfl (by decide +kernel) (by decide) rfl (cat_len (Nat.le_of_ble_eq_true rfl)) (kk_I fun i2 h1 hg => ?_) (fun _ _ _ hx => hx.elim)
  have hf := hg
  clear hg
  refine v_istore_n (i := 3) (lv' := [(0, va_rf r_0), (1, .int i_1), (2, .int i_2), (3, .int i2)]) dX1_isNearer_5 rfl (Nat.le_of_ble_eq_true rfl) rfl rfl ?_
  refine v_qload_n (r := r_0) (i := 0) dX1_isNearer_6 rfl rfl ?_
  refine v_iload_n (i := 2) dX1_isNearer_7 rfl rfl ?_
  obtain ⟨mc9, ms10, hkmc9, hnms10, hM⟩ := hf
  refine V.weak (k' := (((k - mc3) - mc9) + 0) + mc9) (n' := (((n - ms4) - ms10) + 0) + ms10) ?_ (by omega) (by omega)
  refine v_callS 2 dX1_isNearer_8 hM rfl (lw_S q1648 q1649 q89 q1650) rfl (by decide +kernel) (by decide) rfl (cat_len (Nat.le_of_ble_eq_true rfl)) (kk_I fun i8 h7 hg => ?_) (fun _ _ _ hx => hx.elim)
  have hf := hg
  clear hg
  refine v_istore (i := 4) (lv' := [(0, va_rf r_0), (1, .int i_1), (2, .int i_2), (3, .int i2), (4, .int i8)]) dX1_isNearer_11 (Nat.le_of_ble_eq_true rfl) rfl rfl ?_
  refine v_iload (i := 4) dX1_isNearer_13 rfl ?_
  refine v_sipush (v := -1015) dX1_isNearer_15 (by decide) ?_
  refine v_icmp_ne 27 dX1_isNearer_18 (by decide) (fun c13 => ?_) (fun c13 => ?_)
  · replace hf := hf.1 c13
    refine v_iload (i := 4) dX1_isNearer_27 rfl ?_
    refine v_iload_n (i := 3) dX1_isNearer_29 rfl rfl ?_
    refine v_sipush (v := -1015) dX1_isNearer_30 (by decide) ?_
    refine v_icmp_ne 42 dX1_isNearer_33 (by decide) (fun c14 => ?_) (fun c14 => ?_)
    · replace hf := hf.1 c14
      refine v_iload_n (i := 3) dX1_isNearer_42 rfl rfl ?_
      refine v_isub dX1_isNearer_43 ?_
      refine v_istore (i := 5) (lv' := [(0, va_rf r_0), (1, .int i_1), (2, .int i_2), (3, .int i2), (4, .int i8), (5, .int (i8 - i2))]) dX1_isNearer_44 (Nat.le_of_ble_eq_true rfl) rfl rfl ?_
      refine v_iload (i := 5) dX1_isNearer_46 rfl ?_
      refine v_if_eq 64 dX1_isNearer_48 (by decide) (fun c15 => ?_) (fun c15 => ?_)
      · replace hf := hf.1 c15
        refine v_iload_n (i := 1) dX1_isNearer_64 rfl rfl ?_
        refine v_iload_n (i := 2) dX1_isNearer_65 rfl rfl ?_
        refine v_icmp_ge 73 dX1_isNearer_66 (by decide) (fun c16 => ?_) (fun c16 => ?_)
        · replace hf := hf.1 c16
          refine v_iconst (v := 0) dX1_isNearer_73 (by decide) ?_
          exact v_zret dX1_isNearer_74 rfl (by decide) ⟨_, rfl, hf⟩
        · replace hf := hf.2 c16
          refine v_iconst (v := 1) dX1_isNearer_69 (by decide) ?_
          refine v_goto 74 dX1_isNearer_70 (by decide) ?_
          exact v_zret dX1_isNearer_74 rfl (by decide) ⟨_, rfl, hf⟩
      · replace hf := hf.2 c15
        refine v_iload (i := 5) dX1_isNearer_51 rfl ?_
        refine v_if_le 60 dX1_isNearer_53 (by decide) (fun c17 => ?_) (fun c17 => ?_)
        · replace hf := hf.1 c17
          refine v_iconst (v := 0) dX1_isNearer_60 (by decide) ?_
          refine v_goto 74 dX1_isNearer_61 (by decide) ?_
          exact v_zret dX1_isNearer_74 rfl (by decide) ⟨_, rfl, hf⟩
        · replace hf := hf.2 c17
          refine v_iconst (v := 1) dX1_isNearer_56 (by decide) ?_
          refine v_goto 74 dX1_isNearer_57 (by decide) ?_
          exact v_zret dX1_isNearer_74 rfl (by decide) ⟨_, rfl, hf⟩
    · replace hf := hf.2 c14
      refine v_sipush (v := 10000) dX1_isNearer_36 (by decide) ?_
      refine v_goto 43 dX1_isNearer_39 (by decide) ?_
      refine v_isub dX1_isNearer_43 ?_
      refine v_istore (i := 5) (lv' := [(0, va_rf r_0), (1, .int i_1), (2, .int i_2), (3, .int i2), (4, .int i8), (5, .int (i8 - (10000 : Int32)))]) dX1_isNearer_44 (Nat.le_of_ble_eq_true rfl) rfl rfl ?_
      refine v_iload (i := 5) dX1_isNearer_46 rfl ?_
      refine v_if_eq 64 dX1_isNearer_48 (by decide) (fun c18 => ?_) (fun c18 => ?_)
      · replace hf := hf.1 c18
        refine v_iload_n (i := 1) dX1_isNearer_64 rfl rfl ?_
        refine v_iload_n (i := 2) dX1_isNearer_65 rfl rfl ?_
        refine v_icmp_ge 73 dX1_isNearer_66 (by decide) (fun c19 => ?_) (fun c19 => ?_)
        · replace hf := hf.1 c19
          refine v_iconst (v := 0) dX1_isNearer_73 (by decide) ?_
          exact v_zret dX1_isNearer_74 rfl (by decide) ⟨_, rfl, hf⟩
        · replace hf := hf.2 c19
          refine v_iconst (v := 1) dX1_isNearer_69 (by decide) ?_
          refine v_goto 74 dX1_isNearer_70 (by decide) ?_
          exact v_zret dX1_isNearer_74 rfl (by decide) ⟨_, rfl, hf⟩
      · replace hf := hf.2 c18
        refine v_iload (i := 5) dX1_isNearer_51 rfl ?_
        refine v_if_le 60 dX1_isNearer_53 (by decide) (fun c20 => ?_) (fun c20 => ?_)
        · replace hf := hf.1 c20
          refine v_iconst (v := 0) dX1_isNearer_60 (by decide) ?_
          refine v_goto 74 dX1_isNearer_61 (by decide) ?_
          exact v_zret dX1_isNearer_74 rfl (by decide) ⟨_, rfl, hf⟩
        · replace hf := hf.2 c20
          refine v_iconst (v := 1) dX1_isNearer_56 (by decide) ?_
          refine v_goto 74 dX1_isNearer_57 (by decide) ?_
          exact v_zret dX1_isNearer_74 rfl (by decide) ⟨_, rfl, hf⟩
  · replace hf := hf.2 c13
    refine v_sipush (v := 10000) dX1_isNearer_21 (by decide) ?_
    refine v_goto 29 dX1_isNearer_24 (by decide) ?_
    refine v_iload_n (i := 3) dX1_isNearer_29 rfl rfl ?_
    refine v_sipush (v := -1015) dX1_isNearer_30 (by decide) ?_
    refine v_icmp_ne 42 dX1_isNearer_33 (by decide) (fun c21 => ?_) (fun c21 => ?_)
    · replace hf := hf.1 c21
      refine v_iload_n (i := 3) dX1_isNearer_42 rfl rfl ?_
      refine v_isub dX1_isNearer_43 ?_
      refine v_istore (i := 5) (lv' := [(0, va_rf r_0), (1, .int i_1), (2, .int i_2), (3, .int i2), (4, .int i8), (5, .int ((10000 : Int32) - i2))]) dX1_isNearer_44 (Nat.le_of_ble_eq_true rfl) rfl rfl ?_
      refine v_iload (i := 5) dX1_isNearer_46 rfl ?_
      refine v_if_eq 64 dX1_isNearer_48 (by decide) (fun c22 => ?_) (fun c22 => ?_)
      · replace hf := hf.1 c22
        refine v_iload_n (i := 1) dX1_isNearer_64 rfl rfl ?_
        refine v_iload_n (i := 2) dX1_isNearer_65 rfl rfl ?_
        refine v_icmp_ge 73 dX1_isNearer_66 (by decide) (fun c23 => ?_) (fun c23 => ?_)
        · replace hf := hf.1 c23
          refine v_iconst (v := 0) dX1_isNearer_73 (by decide) ?_
          exact v_zret dX1_isNearer_74 rfl (by decide) ⟨_, rfl, hf⟩
        · replace hf := hf.2 c23
          refine v_iconst (v := 1) dX1_isNearer_69 (by decide) ?_
          refine v_goto 74 dX1_isNearer_70 (by decide) ?_
          exact v_zret dX1_isNearer_74 rfl (by decide) ⟨_, rfl, hf⟩
      · replace hf := hf.2 c22
        refine v_iload (i := 5) dX1_isNearer_51 rfl ?_
        refine v_if_le 60 dX1_isNearer_53 (by decide) (fun c24 => ?_) (fun c24 => ?_)
        · replace hf := hf.1 c24
          refine v_iconst (v := 0) dX1_isNearer_60 (by decide) ?_
          refine v_goto 74 dX1_isNearer_61 (by decide) ?_
          exact v_zret dX1_isNearer_74 rfl (by decide) ⟨_, rfl, hf⟩
        · replace hf := hf.2 c24
          refine v_iconst (v := 1) dX1_isNearer_56 (by decide) ?_
          refine v_goto 74 dX1_isNearer_57 (by decide) ?_
          exact v_zret dX1_isNearer_74 rfl (by decide) ⟨_, rfl, hf⟩
    · replace hf := hf.2 c21
      refine v_sipush (v := 10000) dX1_isNearer_36 (by decide) ?_
      refine v_goto 43 dX1_isNearer_39 (by decide) ?_
      refine v_isub dX1_isNearer_43 ?_
      refine v_istore (i := 5) (lv' := [(0, va_rf r_0), (1, .int i_1), (2, .int i_2), (3, .int i2), (4, .int i8), (5, .int ((10000 : Int32) - (10000 : Int32)))]) dX1_isNearer_44 (Nat.le_of_ble_eq_true rfl) rfl rfl ?_
      refine v_iload (i := 5) dX1_isNearer_46 rfl ?_
      refine v_if_eq 64 dX1_isNearer_48 (by decide) (fun c25 => ?_) (fun c25 => ?_)
      · replace hf := hf.1 c25
        refine v_iload_n (i := 1) dX1_isNearer_64 rfl rfl ?_
        refine v_iload_n (i := 2) dX1_isNearer_65 rfl rfl ?_
        refine v_icmp_ge 73 dX1_isNearer_66 (by decide) (fun c26 => ?_) (fun c26 => ?_)
        · replace hf := hf.1 c26
          refine v_iconst (v := 0) dX1_isNearer_73 (by decide) ?_
          exact v_zret dX1_isNearer_74 rfl (by decide) ⟨_, rfl, hf⟩
        · replace hf := hf.2 c26
          refine v_iconst (v := 1) dX1_isNearer_69 (by decide) ?_
          refine v_goto 74 dX1_isNearer_70 (by decide) ?_
          exact v_zret dX1_isNearer_74 rfl (by decide) ⟨_, rfl, hf⟩
      · replace hf := hf.2 c25
        refine v_iload (i := 5) dX1_isNearer_51 rfl ?_
        refine v_if_le 60 dX1_isNearer_53 (by decide) (fun c27 => ?_) (fun c27 => ?_)
        · replace hf := hf.1 c27
          refine v_iconst (v := 0) dX1_isNearer_60 (by decide) ?_
          refine v_goto 74 dX1_isNearer_61 (by decide) ?_
          exact v_zret dX1_isNearer_74 rfl (by decide) ⟨_, rfl, hf⟩
        · replace hf := hf.2 c27
          refine v_iconst (v := 1) dX1_isNearer_56 (by decide) ?_
          refine v_goto 74 dX1_isNearer_57 (by decide) ?_
          exact v_zret dX1_isNearer_74 rfl (by decide) ⟨_, rfl, hf⟩
abbrev Y_X1_ranked : Yt := (yX1_ranked, some (.int), 8, 217, [])
def g_X1_ranked_0 (G : Gt) (E : Ev) (h : Hp) (k n : Nat) (a0 : Nat) (i_1 : Int32) (K : Int32 → Hp → Prop) : Prop :=
gR h (some a0) 1 0 fun r1 =>
rv h r1 10 (f_J2_isEmpty G h r1 (fun i11 h10 =>
((i11 = 0 → rv h10 (some a0) 1 (dR G Y_X1_nearWalker cX1_nearWalker 1 [va_rf (some a0)] h10 k n (fun r17 h16 k20 n21 =>
V G E Y_X1_ranked cX1_ranked 6 (QM G E (kI K) xN) h16 k20 n21 21 [(0, .ref a0), (1, .int i_1), (2, va_rf r17), (3, .int (0 : Int32))] []) xN)) ∧
(¬ (i11 = 0) → K (-1011 : Int32) h10))))
theorem s_X1_ranked_0 {G : Gt} {E : Ev} {h : Hp} {k0 n0 : Nat} {a0 : Nat} {i_1 : Int32} {K : Int32 → Hp → Prop} (hG : Base G) (hA : 0 ≤ k0) (hB : 0 ≤ n0) (hf : g_X1_ranked_0 G E h (k0 - 0) (n0 - 0) a0 i_1 K) : V G E Y_X1_ranked cX1_ranked 6 (QM G E (kI K) xN) h k0 n0 0 [(0, .ref a0), (1, .int i_1)] [] := by
  obtain ⟨k, hk9⟩ : ∃ z, z = k0 - 0 := ⟨_, rfl⟩
  obtain ⟨n, hn9⟩ : ∃ z, z = n0 - 0 := ⟨_, rfl⟩
  rw [← hk9, ← hn9] at hf
  refine V.weak (k' := k + 0) (n' := n + 0) ?_ (by omega) (by omega)
  unfold g_X1_ranked_0 at hf
  refine v_aload_n (i := 0) dX1_ranked_0 rfl rfl ?_
  replace hf := gR_e hf
  obtain ⟨w2, fs3, r1, hh4, hk5, hf⟩ := hf
  refine v_getf (T := TX1) (ci := 1) 0 dX1_ranked_1 q188 rfl in_X1 (Nat.le_of_ble_eq_true rfl) (Or.inl rfl) hh4 hk5 ?_
  obtain ⟨a6, rfl⟩ := rv_s hf
  replace hf := rv_e hf
  obtain ⟨w7, fs8, hh9, hf⟩ := hf
  refine V.addK0 ?_
  refine V.addN0 ?_
  refine v_callV (mc := 0) (ms := 0) 0 dX1_ranked_4 (m_J2_isEmpty hG hf) rfl hh9 rfl (lw_V q773 q774 q775 q92 q776) rfl (by decide +kernel) (by decide) rfl (cat_len (Nat.le_of_ble_eq_true rfl)) (kk_I fun i11 h10 hg => ?_) (fun _ _ _ hx => hx.elim)
  replace hf := hg
  clear hg
  refine v_if_eq 14 dX1_ranked_7 (by decide) (fun c12 => ?_) (fun c12 => ?_)
  · replace hf := hf.1 c12
    refine v_aload_n (i := 0) dX1_ranked_14 rfl rfl ?_
    replace hf := rv_e hf
    obtain ⟨w13, fs14, hh15, hf⟩ := hf
    obtain ⟨mc18, ms19, hkmc18, hnms19, hM⟩ := hf
    refine V.weak (k' := ((k - mc18) + 0) + mc18) (n' := ((n - ms19) + 0) + ms19) ?_ (by omega) (by omega)
    refine v_callV 0 dX1_ranked_15 hM rfl hh15 rfl (lw_V q1843 q1845 qs34 q89 q1846) rfl (by decide +kernel) (by decide) rfl (cat_len (Nat.le_of_ble_eq_true rfl)) (kk_R fun r17 h16 hg => ?_) (fun _ _ _ hx => hx.elim)
    have hf := hg
    clear hg
    refine v_qstore_n (i := 2) (r := r17) (lv' := [(0, .ref a0), (1, .int i_1), (2, va_rf r17)]) dX1_ranked_18 rfl (Nat.le_of_ble_eq_true rfl) rfl rfl ?_
    refine v_iconst (v := 0) dX1_ranked_19 (by decide) ?_
    refine v_istore_n (i := 3) (lv' := [(0, .ref a0), (1, .int i_1), (2, va_rf r17), (3, .int (0 : Int32))]) dX1_ranked_20 rfl (Nat.le_of_ble_eq_true rfl) rfl rfl ?_
    exact V.weak hf (by omega) (by omega)
  · replace hf := hf.2 c12
    refine v_sipush (v := -1011) dX1_ranked_10 (by decide) ?_
    exact v_iret dX1_ranked_13 rfl ⟨_, rfl, hf⟩
def g_X1_ranked_21 (G : Gt) (E : Ev) (h : Hp) (k n : Nat) (a0 : Nat) (i_1 : Int32) (r_2 : Option Nat) (i_3 : Int32) (K : Int32 → Hp → Prop) : Prop :=
rv h (some a0) 1 (f_X1_many G h (some a0) (fun i5 h4 =>
((i5 ≤ i_3 → K (-1011 : Int32) h4) ∧
(¬ (i5 ≤ i_3) → V G E Y_X1_ranked cX1_ranked 6 (QM G E (kI K) xN) h4 k n 35 [(0, .ref a0), (1, .int i_1), (2, va_rf r_2), (3, .int i_3), (4, .int (0 : Int32)), (5, .int (0 : Int32))] []))))
theorem s_X1_ranked_21 {G : Gt} {E : Ev} {h : Hp} {k0 n0 : Nat} {a0 : Nat} {i_1 : Int32} {r_2 : Option Nat} {i_3 : Int32} {K : Int32 → Hp → Prop} (hG : Base G) (hA : 0 ≤ k0) (hB : 0 ≤ n0) (hf : g_X1_ranked_21 G E h (k0 - 0) (n0 - 0) a0 i_1 r_2 i_3 K) : V G E Y_X1_ranked cX1_ranked 6 (QM G E (kI K) xN) h k0 n0 21 [(0, .ref a0), (1, .int i_1), (2, va_rf r_2), (3, .int i_3)] [] := by
  obtain ⟨k, hk9⟩ : ∃ z, z = k0 - 0 := ⟨_, rfl⟩
  obtain ⟨n, hn9⟩ : ∃ z, z = n0 - 0 := ⟨_, rfl⟩
  rw [← hk9, ← hn9] at hf
  refine V.weak (k' := k + 0) (n' := n + 0) ?_ (by omega) (by omega)
  unfold g_X1_ranked_21 at hf
  refine v_iload_n (i := 3) dX1_ranked_21 rfl rfl ?_
  refine v_aload_n (i := 0) dX1_ranked_22 rfl rfl ?_
  replace hf := rv_e hf
  obtain ⟨w1, fs2, hh3, hf⟩ := hf
  refine V.addK0 ?_
  refine V.addN0 ?_
  refine v_callV (mc := 0) (ms := 0) 0 dX1_ranked_23 (m_X1_many hG hf) rfl hh3 rfl (lw_V q504 q505 q506 q89 q507) rfl (by decide +kernel) (by decide) rfl (cat_len (Nat.le_of_ble_eq_true rfl)) (kk_I fun i5 h4 hg => ?_) (fun _ _ _ hx => hx.elim)
  replace hf := hg
  clear hg
  refine v_icmp_ge 90 dX1_ranked_26 (by decide) (fun c6 => ?_) (fun c6 => ?_)
  · replace hf := hf.1 c6
    refine v_sipush (v := -1011) dX1_ranked_90 (by decide) ?_
    exact v_iret dX1_ranked_93 rfl ⟨_, rfl, hf⟩
  · replace hf := hf.2 c6
    refine v_iconst (v := 0) dX1_ranked_29 (by decide) ?_
    refine v_istore (i := 4) (lv' := [(0, .ref a0), (1, .int i_1), (2, va_rf r_2), (3, .int i_3), (4, .int (0 : Int32))]) dX1_ranked_30 (Nat.le_of_ble_eq_true rfl) rfl rfl ?_
    refine v_iconst (v := 0) dX1_ranked_32 (by decide) ?_
    refine v_istore (i := 5) (lv' := [(0, .ref a0), (1, .int i_1), (2, va_rf r_2), (3, .int i_3), (4, .int (0 : Int32)), (5, .int (0 : Int32))]) dX1_ranked_33 (Nat.le_of_ble_eq_true rfl) rfl rfl ?_
    exact V.weak hf (by omega) (by omega)
def g_X1_ranked_35 (G : Gt) (E : Ev) (h : Hp) (k n : Nat) (a0 : Nat) (i_1 : Int32) (r_2 : Option Nat) (i_3 : Int32) (i_4 : Int32) (i_5 : Int32) (K : Int32 → Hp → Prop) : Prop :=
rv h (some a0) 1 (f_X1_many G h (some a0) (fun i5 h4 =>
((i5 ≤ i_5 → ((¬ (i_4 = i_1) → V G E Y_X1_ranked cX1_ranked 6 (QM G E (kI K) xN) h4 k n 21 [(0, .ref a0), (1, .int i_1), (2, va_rf r_2), (3, .int (i_3 + (1 : Int32)))] []) ∧
(i_4 = i_1 → K i_3 h4))) ∧
(¬ (i5 ≤ i_5) → ((i_5 = i_3 → V G E Y_X1_ranked cX1_ranked 6 (QM G E (kI K) xN) h4 k n 35 [(0, .ref a0), (1, .int i_1), (2, va_rf r_2), (3, .int i_3), (4, .int (i_4 + (0 : Int32))), (5, .int (i_5 + (1 : Int32)))] []) ∧
(¬ (i_5 = i_3) → dI G Y_X1_isNearer cX1_isNearer 6 [va_rf r_2, .int i_5, .int i_3] h4 k n (fun i10 h9 k13 n14 =>
((i10 = 0 → V G E Y_X1_ranked cX1_ranked 6 (QM G E (kI K) xN) h9 k13 n14 35 [(0, .ref a0), (1, .int i_1), (2, va_rf r_2), (3, .int i_3), (4, .int (i_4 + (0 : Int32))), (5, .int (i_5 + (1 : Int32)))] []) ∧
(¬ (i10 = 0) → V G E Y_X1_ranked cX1_ranked 6 (QM G E (kI K) xN) h9 k13 n14 35 [(0, .ref a0), (1, .int i_1), (2, va_rf r_2), (3, .int i_3), (4, .int (i_4 + (1 : Int32))), (5, .int (i_5 + (1 : Int32)))] []))) xN))))))
theorem s_X1_ranked_35 {G : Gt} {E : Ev} {h : Hp} {k0 n0 : Nat} {a0 : Nat} {i_1 : Int32} {r_2 : Option Nat} {i_3 : Int32} {i_4 : Int32} {i_5 : Int32} {K : Int32 → Hp → Prop} (hG : Base G) (hA : 0 ≤ k0) (hB : 0 ≤ n0) (hf : g_X1_ranked_35 G E h (k0 - 0) (n0 - 0) a0 i_1 r_2 i_3 i_4 i_5 K) : V G E Y_X1_ranked cX1_ranked 6 (QM G E (kI K) xN) h k0 n0 35 [(0, .ref a0), (1, .int i_1), (2, va_rf r_2), (3, .int i_3), (4, .int i_4), (5, .int i_5)] [] := by
  obtain ⟨k, hk9⟩ : ∃ z, z = k0 - 0 := ⟨_, rfl⟩
  obtain ⟨n, hn9⟩ : ∃ z, z = n0 - 0 := ⟨_, rfl⟩
  rw [← hk9, ← hn9] at hf
  refine V.weak (k' := k + 0) (n' := n + 0) ?_ (by omega) (by omega)
  unfold g_X1_ranked_35 at hf
  refine v_iload (i := 5) dX1_ranked_35 rfl ?_
  refine v_aload_n (i := 0) dX1_ranked_37 rfl rfl ?_
  replace hf := rv_e hf
  obtain ⟨w1, fs2, hh3, hf⟩ := hf
  refine V.addK0 ?_
  refine V.addN0 ?_
  refine v_callV (mc := 0) (ms := 0) 0 dX1_ranked_38 (m_X1_many hG hf) rfl hh3 rfl (lw_V q504 q505 q506 q89 q507) rfl (by decide +kernel) (by decide) rfl (cat_len (Nat.le_of_ble_eq_true rfl)) (kk_I fun i5 h4 hg => ?_) (fun _ _ _ hx => hx.elim)
  replace hf := hg
  clear hg
  refine v_icmp_ge 76 dX1_ranked_41 (by decide) (fun c6 => ?_) (fun c6 => ?_)
  · replace hf := hf.1 c6
    refine v_iload (i := 4) dX1_ranked_76 rfl ?_
    refine v_iload_n (i := 1) dX1_ranked_78 rfl rfl ?_
    refine v_icmp_ne 84 dX1_ranked_79 (by decide) (fun c7 => ?_) (fun c7 => ?_)
    · replace hf := hf.1 c7
      refine v_iinc (i := 3) (v := i_3 + (1 : Int32)) (lv' := [(0, .ref a0), (1, .int i_1), (2, va_rf r_2), (3, .int (i_3 + (1 : Int32))), (4, .int i_4), (5, .int i_5)]) dX1_ranked_84 rfl rfl (Nat.le_of_ble_eq_true rfl) rfl rfl ?_
      refine v_goto 21 dX1_ranked_87 (by decide) ?_
      refine V.lp (lv' := [(0, .ref a0), (1, .int i_1), (2, va_rf r_2), (3, .int (i_3 + (1 : Int32)))]) [0, 1, 2, 3] rfl ?_
      exact V.weak hf (by omega) (by omega)
    · replace hf := hf.2 c7
      refine v_iload_n (i := 3) dX1_ranked_82 rfl rfl ?_
      exact v_iret dX1_ranked_83 rfl ⟨_, rfl, hf⟩
  · replace hf := hf.2 c6
    refine v_iload (i := 4) dX1_ranked_44 rfl ?_
    refine v_iload (i := 5) dX1_ranked_46 rfl ?_
    refine v_iload_n (i := 3) dX1_ranked_48 rfl rfl ?_
    refine v_icmp_eq 66 dX1_ranked_49 (by decide) (fun c8 => ?_) (fun c8 => ?_)
    · replace hf := hf.1 c8
      refine v_iconst (v := 0) dX1_ranked_66 (by decide) ?_
      refine v_iadd dX1_ranked_67 ?_
      refine v_istore (i := 4) (lv' := [(0, .ref a0), (1, .int i_1), (2, va_rf r_2), (3, .int i_3), (4, .int (i_4 + (0 : Int32))), (5, .int i_5)]) dX1_ranked_68 (Nat.le_of_ble_eq_true rfl) rfl rfl ?_
      refine v_iinc (i := 5) (v := i_5 + (1 : Int32)) (lv' := [(0, .ref a0), (1, .int i_1), (2, va_rf r_2), (3, .int i_3), (4, .int (i_4 + (0 : Int32))), (5, .int (i_5 + (1 : Int32)))]) dX1_ranked_70 rfl rfl (Nat.le_of_ble_eq_true rfl) rfl rfl ?_
      refine v_goto 35 dX1_ranked_73 (by decide) ?_
      exact V.weak hf (by omega) (by omega)
    · replace hf := hf.2 c8
      refine v_qload_n (r := r_2) (i := 2) dX1_ranked_52 rfl rfl ?_
      refine v_iload (i := 5) dX1_ranked_53 rfl ?_
      refine v_iload_n (i := 3) dX1_ranked_55 rfl rfl ?_
      obtain ⟨mc11, ms12, hkmc11, hnms12, hM⟩ := hf
      refine V.weak (k' := ((k - mc11) + 0) + mc11) (n' := ((n - ms12) + 0) + ms12) ?_ (by omega) (by omega)
      refine v_callS 3 dX1_ranked_56 hM rfl (lw_S q1964 q1965 q89 q1966) rfl (by decide +kernel) (by decide) rfl (cat_len (Nat.le_of_ble_eq_true rfl)) (kk_I fun i10 h9 hg => ?_) (fun _ _ _ hx => hx.elim)
      have hf := hg
      clear hg
      refine v_if_eq 66 dX1_ranked_59 (by decide) (fun c15 => ?_) (fun c15 => ?_)
      · replace hf := hf.1 c15
        refine v_iconst (v := 0) dX1_ranked_66 (by decide) ?_
        refine v_iadd dX1_ranked_67 ?_
        refine v_istore (i := 4) (lv' := [(0, .ref a0), (1, .int i_1), (2, va_rf r_2), (3, .int i_3), (4, .int (i_4 + (0 : Int32))), (5, .int i_5)]) dX1_ranked_68 (Nat.le_of_ble_eq_true rfl) rfl rfl ?_
        refine v_iinc (i := 5) (v := i_5 + (1 : Int32)) (lv' := [(0, .ref a0), (1, .int i_1), (2, va_rf r_2), (3, .int i_3), (4, .int (i_4 + (0 : Int32))), (5, .int (i_5 + (1 : Int32)))]) dX1_ranked_70 rfl rfl (Nat.le_of_ble_eq_true rfl) rfl rfl ?_
        refine v_goto 35 dX1_ranked_73 (by decide) ?_
        exact V.weak hf (by omega) (by omega)
      · replace hf := hf.2 c15
        refine v_iconst (v := 1) dX1_ranked_62 (by decide) ?_
        refine v_goto 67 dX1_ranked_63 (by decide) ?_
        refine v_iadd dX1_ranked_67 ?_
        refine v_istore (i := 4) (lv' := [(0, .ref a0), (1, .int i_1), (2, va_rf r_2), (3, .int i_3), (4, .int (i_4 + (1 : Int32))), (5, .int i_5)]) dX1_ranked_68 (Nat.le_of_ble_eq_true rfl) rfl rfl ?_
        refine v_iinc (i := 5) (v := i_5 + (1 : Int32)) (lv' := [(0, .ref a0), (1, .int i_1), (2, va_rf r_2), (3, .int i_3), (4, .int (i_4 + (1 : Int32))), (5, .int (i_5 + (1 : Int32)))]) dX1_ranked_70 rfl rfl (Nat.le_of_ble_eq_true rfl) rfl rfl ?_
        refine v_goto 35 dX1_ranked_73 (by decide) ?_
        exact V.weak hf (by omega) (by omega)
theorem b_X1_ranked {G : Gt} {h : Hp} {mc ms : Nat} {a0 : Nat} {i_1 : Int32} {K : Int32 → Hp → Prop} (hG : Base G) (hf : ∀ E : Ev, V G E Y_X1_ranked cX1_ranked 6 (QM G E (kI K) xN) h mc ms 0 [(0, .ref a0), (1, .int i_1)] []) : MM G Y_X1_ranked cX1_ranked 6 mc ms [.ref a0, .int i_1] h (kI K) xN := mm_of hG (by decide +kernel) rfl (ac_c rfl (ac_c rfl ac_nil)) (Nat.le_of_ble_eq_true rfl) (fun E _ _ => hf E)
abbrev Y_X1_areAlike : Yt := (yX1_areAlike, some (.boolean), 7, 197, [])
def g_X1_areAlike_0 (G : Gt) (E : Ev) (h : Hp) (k n : Nat) (a0 : Nat) (i_1 : Int32) (i_2 : Int32) (K : Int32 → Hp → Prop) : Prop :=
nO h 6 [.int 0, .int 0] fun a1 h2 =>
f_X6_init G h2 (some a1) i_1 i_2 (fun h3 =>
rv h3 (some a0) 1 (dR G Y_X1_near cX1_near 11 [va_rf (some a0), .ref a1] h3 k n (fun r8 h7 k11 n12 =>
V G E Y_X1_areAlike cX1_areAlike 6 (QM G E (kI K) xN) h7 k11 n12 20 [(0, .ref a0), (1, .int i_1), (2, .int i_2), (3, va_rf r8), (4, .int (1 : Int32)), (5, .int (0 : Int32))] []) xN))
theorem s_X1_areAlike_0 {G : Gt} {E : Ev} {h : Hp} {k0 n0 : Nat} {a0 : Nat} {i_1 : Int32} {i_2 : Int32} {K : Int32 → Hp → Prop} (hG : Base G) (hA : 1 ≤ k0) (hB : 2 ≤ n0) (hf : g_X1_areAlike_0 G E h (k0 - 1) (n0 - 2) a0 i_1 i_2 K) : V G E Y_X1_areAlike cX1_areAlike 6 (QM G E (kI K) xN) h k0 n0 0 [(0, .ref a0), (1, .int i_1), (2, .int i_2)] [] := by
  obtain ⟨k, hk9⟩ : ∃ z, z = k0 - 1 := ⟨_, rfl⟩
  obtain ⟨n, hn9⟩ : ∃ z, z = n0 - 2 := ⟨_, rfl⟩
  rw [← hk9, ← hn9] at hf
  refine V.weak (k' := k + 1) (n' := n + 2) ?_ (by omega) (by omega)
  unfold g_X1_areAlike_0 at hf
  refine v_aload_n (i := 0) dX1_areAlike_0 rfl rfl ?_
  refine v_new (N := 2) (fs := [.int 0, .int 0]) (ci := 6) dX1_areAlike_1 q886 q887 q123 rfl in_X6 tyX6 tyX6_ok rfl (fun a1 ha1 => ?_)
  replace hf := hf a1 ha1
  obtain ⟨h2, eh2⟩ : ∃ z, z = hs h a1 (true, .inr (6, [.int 0, .int 0])) := ⟨_, rfl⟩
  try rw [← eh2] at hf
  rw [← eh2]
  refine v_dup dX1_areAlike_4 rfl ?_
  refine v_iload_n (i := 1) dX1_areAlike_5 rfl rfl ?_
  refine v_iload_n (i := 2) dX1_areAlike_6 rfl rfl ?_
  refine V.addK0 ?_
  refine V.addN0 ?_
  refine v_callI (mc := 0) (ms := 0) 2 dX1_areAlike_7 (m_X6_init hG hf) rfl (lw_meth q890) rfl q123 q888 q889 rfl rfl (by decide +kernel) (by decide) rfl (cat_len (Nat.le_of_ble_eq_true rfl)) (kk_V fun h3 hg => ?_) (fun _ _ _ hx => hx.elim)
  replace hf := hg
  clear hg
  replace hf := rv_e hf
  obtain ⟨w4, fs5, hh6, hf⟩ := hf
  obtain ⟨mc9, ms10, hkmc9, hnms10, hM⟩ := hf
  refine V.weak (k' := ((k - mc9) + 0) + mc9) (n' := ((n - ms10) + 0) + ms10) ?_ (by omega) (by omega)
  refine v_callV 1 dX1_areAlike_10 hM rfl hh6 rfl (lw_V q1607 q1609 qs19 q89 q1610) rfl (by decide +kernel) (by decide) rfl (cat_len (Nat.le_of_ble_eq_true rfl)) (kk_R fun r8 h7 hg => ?_) (fun _ _ _ hx => hx.elim)
  have hf := hg
  clear hg
  refine v_qstore_n (i := 3) (r := r8) (lv' := [(0, .ref a0), (1, .int i_1), (2, .int i_2), (3, va_rf r8)]) dX1_areAlike_13 rfl (Nat.le_of_ble_eq_true rfl) rfl rfl ?_
  refine v_iconst (v := 1) dX1_areAlike_14 (by decide) ?_
  refine v_istore (i := 4) (lv' := [(0, .ref a0), (1, .int i_1), (2, .int i_2), (3, va_rf r8), (4, .int (1 : Int32))]) dX1_areAlike_15 (Nat.le_of_ble_eq_true rfl) rfl rfl ?_
  refine v_iconst (v := 0) dX1_areAlike_17 (by decide) ?_
  refine v_istore (i := 5) (lv' := [(0, .ref a0), (1, .int i_1), (2, .int i_2), (3, va_rf r8), (4, .int (1 : Int32)), (5, .int (0 : Int32))]) dX1_areAlike_18 (Nat.le_of_ble_eq_true rfl) rfl rfl ?_
  exact V.weak hf (by omega) (by omega)
def g_X1_areAlike_20 (G : Gt) (E : Ev) (h : Hp) (k n : Nat) (a0 : Nat) (i_1 : Int32) (i_2 : Int32) (r_3 : Option Nat) (i_4 : Int32) (i_5 : Int32) (K : Int32 → Hp → Prop) : Prop :=
rv h (some a0) 1 (f_X1_many G h (some a0) (fun i5 h4 =>
((i5 ≤ i_5 → (narrow .boolean (.int i_4) = .int i_4 ∧ K i_4 h4)) ∧
(¬ (i5 ≤ i_5) → dI G Y_X1_fewest cX1_fewest 5 [va_rf r_3, .int i_5] h4 k n (fun i8 h7 k11 n12 =>
rv h7 (some a0) 1 (dI G Y_X1_wayAgain cX1_wayAgain 8 [va_rf (some a0), .int i_1, .int i_5, .int i_2] h7 k11 n12 (fun i17 h16 k20 n21 =>
((¬ (i8 = i17) → V G E Y_X1_areAlike cX1_areAlike 6 (QM G E (kI K) xN) h16 k20 n21 20 [(0, .ref a0), (1, .int i_1), (2, .int i_2), (3, va_rf r_3), (4, .int (i_4 &&& (0 : Int32))), (5, .int (i_5 + (1 : Int32)))] []) ∧
(i8 = i17 → V G E Y_X1_areAlike cX1_areAlike 6 (QM G E (kI K) xN) h16 k20 n21 20 [(0, .ref a0), (1, .int i_1), (2, .int i_2), (3, va_rf r_3), (4, .int (i_4 &&& (1 : Int32))), (5, .int (i_5 + (1 : Int32)))] []))) xN)) xN))))
theorem s_X1_areAlike_20 {G : Gt} {E : Ev} {h : Hp} {k0 n0 : Nat} {a0 : Nat} {i_1 : Int32} {i_2 : Int32} {r_3 : Option Nat} {i_4 : Int32} {i_5 : Int32} {K : Int32 → Hp → Prop} (hG : Base G) (hA : 0 ≤ k0) (hB : 0 ≤ n0) (hf : g_X1_areAlike_20 G E h (k0 - 0) (n0 - 0) a0 i_1 i_2 r_3 i_4 i_5 K) : V G E Y_X1_areAlike cX1_areAlike 6 (QM G E (kI K) xN) h k0 n0 20 [(0, .ref a0), (1, .int i_1), (2, .int i_2), (3, va_rf r_3), (4, .int i_4), (5, .int i_5)] [] := by
  obtain ⟨k, hk9⟩ : ∃ z, z = k0 - 0 := ⟨_, rfl⟩
  obtain ⟨n, hn9⟩ : ∃ z, z = n0 - 0 := ⟨_, rfl⟩
  rw [← hk9, ← hn9] at hf
  refine V.weak (k' := k + 0) (n' := n + 0) ?_ (by omega) (by omega)
  unfold g_X1_areAlike_20 at hf
  refine v_iload (i := 5) dX1_areAlike_20 rfl ?_
  refine v_aload_n (i := 0) dX1_areAlike_22 rfl rfl ?_
  replace hf := rv_e hf
  obtain ⟨w1, fs2, hh3, hf⟩ := hf
  refine V.addK0 ?_
  refine V.addN0 ?_
  refine v_callV (mc := 0) (ms := 0) 0 dX1_areAlike_23 (m_X1_many hG hf) rfl hh3 rfl (lw_V q504 q505 q506 q89 q507) rfl (by decide +kernel) (by decide) rfl (cat_len (Nat.le_of_ble_eq_true rfl)) (kk_I fun i5 h4 hg => ?_) (fun _ _ _ hx => hx.elim)
  replace hf := hg
  clear hg
  refine v_icmp_ge 62 dX1_areAlike_26 (by decide) (fun c6 => ?_) (fun c6 => ?_)
  · replace hf := hf.1 c6
    refine v_iload (i := 4) dX1_areAlike_62 rfl ?_
    exact v_zret dX1_areAlike_64 rfl hf.1 ⟨_, rfl, hf.2⟩
  · replace hf := hf.2 c6
    refine v_iload (i := 4) dX1_areAlike_29 rfl ?_
    refine v_qload_n (r := r_3) (i := 3) dX1_areAlike_31 rfl rfl ?_
    refine v_iload (i := 5) dX1_areAlike_32 rfl ?_
    obtain ⟨mc9, ms10, hkmc9, hnms10, hM⟩ := hf
    refine V.weak (k' := ((k - mc9) + 0) + mc9) (n' := ((n - ms10) + 0) + ms10) ?_ (by omega) (by omega)
    refine v_callS 2 dX1_areAlike_34 hM rfl (lw_S q1648 q1649 q89 q1650) rfl (by decide +kernel) (by decide) rfl (cat_len (Nat.le_of_ble_eq_true rfl)) (kk_I fun i8 h7 hg => ?_) (fun _ _ _ hx => hx.elim)
    have hf := hg
    clear hg
    refine v_aload_n (i := 0) dX1_areAlike_37 rfl rfl ?_
    refine v_iload_n (i := 1) dX1_areAlike_38 rfl rfl ?_
    refine v_iload (i := 5) dX1_areAlike_39 rfl ?_
    refine v_iload_n (i := 2) dX1_areAlike_41 rfl rfl ?_
    replace hf := rv_e hf
    obtain ⟨w13, fs14, hh15, hf⟩ := hf
    obtain ⟨mc18, ms19, hkmc18, hnms19, hM⟩ := hf
    refine V.weak (k' := (((k - mc9) - mc18) + 0) + mc18) (n' := (((n - ms10) - ms19) + 0) + ms19) ?_ (by omega) (by omega)
    refine v_callV 3 dX1_areAlike_42 hM rfl hh15 rfl (lw_V q2428 q1772 q1773 q89 q1774) rfl (by decide +kernel) (by decide) rfl (cat_len (Nat.le_of_ble_eq_true rfl)) (kk_I fun i17 h16 hg => ?_) (fun _ _ _ hx => hx.elim)
    have hf := hg
    clear hg
    refine v_icmp_ne 52 dX1_areAlike_45 (by decide) (fun c22 => ?_) (fun c22 => ?_)
    · replace hf := hf.1 c22
      refine v_iconst (v := 0) dX1_areAlike_52 (by decide) ?_
      refine v_iand dX1_areAlike_53 ?_
      refine v_istore (i := 4) (lv' := [(0, .ref a0), (1, .int i_1), (2, .int i_2), (3, va_rf r_3), (4, .int (i_4 &&& (0 : Int32))), (5, .int i_5)]) dX1_areAlike_54 (Nat.le_of_ble_eq_true rfl) rfl rfl ?_
      refine v_iinc (i := 5) (v := i_5 + (1 : Int32)) (lv' := [(0, .ref a0), (1, .int i_1), (2, .int i_2), (3, va_rf r_3), (4, .int (i_4 &&& (0 : Int32))), (5, .int (i_5 + (1 : Int32)))]) dX1_areAlike_56 rfl rfl (Nat.le_of_ble_eq_true rfl) rfl rfl ?_
      refine v_goto 20 dX1_areAlike_59 (by decide) ?_
      exact V.weak hf (by omega) (by omega)
    · replace hf := hf.2 c22
      refine v_iconst (v := 1) dX1_areAlike_48 (by decide) ?_
      refine v_goto 53 dX1_areAlike_49 (by decide) ?_
      refine v_iand dX1_areAlike_53 ?_
      refine v_istore (i := 4) (lv' := [(0, .ref a0), (1, .int i_1), (2, .int i_2), (3, va_rf r_3), (4, .int (i_4 &&& (1 : Int32))), (5, .int i_5)]) dX1_areAlike_54 (Nat.le_of_ble_eq_true rfl) rfl rfl ?_
      refine v_iinc (i := 5) (v := i_5 + (1 : Int32)) (lv' := [(0, .ref a0), (1, .int i_1), (2, .int i_2), (3, va_rf r_3), (4, .int (i_4 &&& (1 : Int32))), (5, .int (i_5 + (1 : Int32)))]) dX1_areAlike_56 rfl rfl (Nat.le_of_ble_eq_true rfl) rfl rfl ?_
      refine v_goto 20 dX1_areAlike_59 (by decide) ?_
      exact V.weak hf (by omega) (by omega)
theorem b_X1_areAlike {G : Gt} {h : Hp} {mc ms : Nat} {a0 : Nat} {i_1 : Int32} {i_2 : Int32} {K : Int32 → Hp → Prop} (hG : Base G) (hf : ∀ E : Ev, V G E Y_X1_areAlike cX1_areAlike 6 (QM G E (kI K) xN) h mc ms 0 [(0, .ref a0), (1, .int i_1), (2, .int i_2)] []) : MM G Y_X1_areAlike cX1_areAlike 6 mc ms [.ref a0, .int i_1, .int i_2] h (kI K) xN := mm_of hG (by decide +kernel) rfl (ac_c rfl (ac_c rfl (ac_c rfl ac_nil))) (Nat.le_of_ble_eq_true rfl) (fun E _ _ => hf E)
abbrev Y_X1_isBalanced : Yt := (yX1_isBalanced, some (.boolean), 8, 222, [])
def g_X1_isBalanced_0 (G : Gt) (E : Ev) (h : Hp) (k n : Nat) (a0 : Nat) (K : Int32 → Hp → Prop) : Prop :=
gI h (some a0) 1 5 fun i1 =>
nA h 0 (3, .inl (fun _ => 0)) fun a6 h7 =>
rv h7 (some a0) 1 (dI G Y_X1_lying cX1_lying 4 [va_rf (some a0)] h7 k n (fun i12 h11 k15 n16 =>
sI h11 (some a6) (0 : Int32) i12 fun h21 =>
rv h21 (some a0) 1 (dI G Y_X1_inHand cX1_inHand 1 [va_rf (some a0)] h21 k15 n16 (fun i26 h25 k29 n30 =>
sI h25 (some a6) (1 : Int32) i26 fun h35 =>
gI h35 (some a0) 1 6 fun i36 =>
sI h35 (some a6) (2 : Int32) i36 fun h45 =>
dI G Y_X0_sum cX0_sum 6 [.ref a6] h45 k29 n30 (fun i47 h46 k50 n51 =>
((¬ (i1 = i47) → V G E Y_X1_isBalanced cX1_isBalanced 3 (QM G E (kI K) xN) h46 k50 n51 42 [(0, .ref a0), (1, .int (0 : Int32)), (2, .int (0 : Int32))] []) ∧
(i1 = i47 → V G E Y_X1_isBalanced cX1_isBalanced 3 (QM G E (kI K) xN) h46 k50 n51 42 [(0, .ref a0), (1, .int (1 : Int32)), (2, .int (0 : Int32))] []))) xN) xN)) xN)
theorem s_X1_isBalanced_0 {G : Gt} {E : Ev} {h : Hp} {k0 n0 : Nat} {a0 : Nat} {K : Int32 → Hp → Prop} (hG : Base G) (hA : 1 ≤ k0) (hB : 3 ≤ n0) (hf : g_X1_isBalanced_0 G E h (k0 - 1) (n0 - 3) a0 K) : V G E Y_X1_isBalanced cX1_isBalanced 3 (QM G E (kI K) xN) h k0 n0 0 [(0, .ref a0)] [] := by
  obtain ⟨k, hk9⟩ : ∃ z, z = k0 - 1 := ⟨_, rfl⟩
  obtain ⟨n, hn9⟩ : ∃ z, z = n0 - 3 := ⟨_, rfl⟩
  rw [← hk9, ← hn9] at hf
  refine V.weak (k' := k + 1) (n' := n + 3) ?_ (by omega) (by omega)
  unfold g_X1_isBalanced_0 at hf
  refine v_aload_n (i := 0) dX1_isBalanced_0 rfl rfl ?_
  replace hf := gI_e hf
  obtain ⟨w2, fs3, i1, hh4, hk5, hf⟩ := hf
  refine v_getf (T := TX1) (ci := 1) 5 dX1_isBalanced_1 q196 rfl in_X1 (Nat.le_of_ble_eq_true rfl) (Or.inl rfl) hh4 hk5 ?_
  refine v_iconst (v := 3) dX1_isBalanced_4 (by decide) ?_
  refine v_newa (t := 0) (N := 3) (x := (3, .inl (fun _ => 0))) dX1_isBalanced_5 (Nat.le_of_ble_eq_true rfl) rfl q219 (fun _ => rfl) rfl (Nat.le_of_ble_eq_true rfl) (fun a6 ha6 => ?_)
  replace hf := hf a6 ha6
  obtain ⟨h7, eh7⟩ : ∃ z, z = hs h a6 (true, .inl (0, (3, .inl (fun _ => 0)))) := ⟨_, rfl⟩
  try rw [← eh7] at hf
  rw [← eh7]
  refine v_dup dX1_isBalanced_7 rfl ?_
  refine v_iconst (v := 0) dX1_isBalanced_8 (by decide) ?_
  refine v_aload_n (i := 0) dX1_isBalanced_9 rfl rfl ?_
  replace hf := rv_e hf
  obtain ⟨w8, fs9, hh10, hf⟩ := hf
  obtain ⟨mc13, ms14, hkmc13, hnms14, hM⟩ := hf
  refine V.weak (k' := ((k - mc13) + 0) + mc13) (n' := ((n - ms14) + 0) + ms14) ?_ (by omega) (by omega)
  refine v_callV 0 dX1_isBalanced_10 hM rfl hh10 rfl (lw_V q2422 q2400 q2401 q89 q2402) rfl (by decide +kernel) (by decide) rfl (cat_len (Nat.le_of_ble_eq_true rfl)) (kk_I fun i12 h11 hg => ?_) (fun _ _ _ hx => hx.elim)
  have hf := hg
  clear hg
  replace hf := sI_e hf
  obtain ⟨N17, f18, hh19, hi20, hf⟩ := hf
  refine v_iast dX1_isBalanced_13 hh19 hi20 ?_
  obtain ⟨h21, eh21⟩ : ∃ z, z = hs h11 a6 (true, .inl (0, N17, .inl (upd f18 ((0 : Int32)).toNatClampNeg (i12)))) := ⟨_, rfl⟩
  try rw [← eh21] at hf
  rw [← eh21]
  refine v_dup dX1_isBalanced_14 rfl ?_
  refine v_iconst (v := 1) dX1_isBalanced_15 (by decide) ?_
  refine v_aload_n (i := 0) dX1_isBalanced_16 rfl rfl ?_
  replace hf := rv_e hf
  obtain ⟨w22, fs23, hh24, hf⟩ := hf
  obtain ⟨mc27, ms28, hkmc27, hnms28, hM⟩ := hf
  refine V.weak (k' := (((k - mc13) - mc27) + 0) + mc27) (n' := (((n - ms14) - ms28) + 0) + ms28) ?_ (by omega) (by omega)
  refine v_callV 0 dX1_isBalanced_17 hM rfl hh24 rfl (lw_V q2423 q2407 q2408 q89 q2409) rfl (by decide +kernel) (by decide) rfl (cat_len (Nat.le_of_ble_eq_true rfl)) (kk_I fun i26 h25 hg => ?_) (fun _ _ _ hx => hx.elim)
  have hf := hg
  clear hg
  replace hf := sI_e hf
  obtain ⟨N31, f32, hh33, hi34, hf⟩ := hf
  refine v_iast dX1_isBalanced_20 hh33 hi34 ?_
  obtain ⟨h35, eh35⟩ : ∃ z, z = hs h25 a6 (true, .inl (0, N31, .inl (upd f32 ((1 : Int32)).toNatClampNeg (i26)))) := ⟨_, rfl⟩
  try rw [← eh35] at hf
  rw [← eh35]
  refine v_dup dX1_isBalanced_21 rfl ?_
  refine v_iconst (v := 2) dX1_isBalanced_22 (by decide) ?_
  refine v_aload_n (i := 0) dX1_isBalanced_23 rfl rfl ?_
  replace hf := gI_e hf
  obtain ⟨w37, fs38, i36, hh39, hk40, hf⟩ := hf
  refine v_getf (T := TX1) (ci := 1) 6 dX1_isBalanced_24 q198 rfl in_X1 (Nat.le_of_ble_eq_true rfl) (Or.inl rfl) hh39 hk40 ?_
  replace hf := sI_e hf
  obtain ⟨N41, f42, hh43, hi44, hf⟩ := hf
  refine v_iast dX1_isBalanced_27 hh43 hi44 ?_
  obtain ⟨h45, eh45⟩ : ∃ z, z = hs h35 a6 (true, .inl (0, N41, .inl (upd f42 ((2 : Int32)).toNatClampNeg (i36)))) := ⟨_, rfl⟩
  try rw [← eh45] at hf
  rw [← eh45]
  obtain ⟨mc48, ms49, hkmc48, hnms49, hM⟩ := hf
  refine V.weak (k' := ((((k - mc13) - mc27) - mc48) + 0) + mc48) (n' := ((((n - ms14) - ms28) - ms49) + 0) + ms49) ?_ (by omega) (by omega)
  refine v_callSN 1 dX1_isBalanced_28 hM rfl (lw_meth q2405) q88 q2403 q2404 rfl (by decide +kernel) (by decide) rfl (cat_len (Nat.le_of_ble_eq_true rfl)) (kk_I fun i47 h46 hg => ?_) (fun _ _ _ hx => hx.elim)
  have hf := hg
  clear hg
  refine v_icmp_ne 38 dX1_isBalanced_31 (by decide) (fun c52 => ?_) (fun c52 => ?_)
  · replace hf := hf.1 c52
    refine v_iconst (v := 0) dX1_isBalanced_38 (by decide) ?_
    refine v_istore_n (i := 1) (lv' := [(0, .ref a0), (1, .int (0 : Int32))]) dX1_isBalanced_39 rfl (Nat.le_of_ble_eq_true rfl) rfl rfl ?_
    refine v_iconst (v := 0) dX1_isBalanced_40 (by decide) ?_
    refine v_istore_n (i := 2) (lv' := [(0, .ref a0), (1, .int (0 : Int32)), (2, .int (0 : Int32))]) dX1_isBalanced_41 rfl (Nat.le_of_ble_eq_true rfl) rfl rfl ?_
    exact V.weak hf (by omega) (by omega)
  · replace hf := hf.2 c52
    refine v_iconst (v := 1) dX1_isBalanced_34 (by decide) ?_
    refine v_goto 39 dX1_isBalanced_35 (by decide) ?_
    refine v_istore_n (i := 1) (lv' := [(0, .ref a0), (1, .int (1 : Int32))]) dX1_isBalanced_39 rfl (Nat.le_of_ble_eq_true rfl) rfl rfl ?_
    refine v_iconst (v := 0) dX1_isBalanced_40 (by decide) ?_
    refine v_istore_n (i := 2) (lv' := [(0, .ref a0), (1, .int (1 : Int32)), (2, .int (0 : Int32))]) dX1_isBalanced_41 rfl (Nat.le_of_ble_eq_true rfl) rfl rfl ?_
    exact V.weak hf (by omega) (by omega)
def g_X1_isBalanced_42 (G : Gt) (E : Ev) (h : Hp) (k n : Nat) (a0 : Nat) (i_1 : Int32) (i_2 : Int32) (K : Int32 → Hp → Prop) : Prop :=
rv h (some a0) 1 (f_X1_many G h (some a0) (fun i5 h4 =>
((i5 ≤ i_2 → (narrow .boolean (.int i_1) = .int i_1 ∧ K i_1 h4)) ∧
(¬ (i5 ≤ i_2) → rv h4 (some a0) 1 (dI G Y_X1_areAlike cX1_areAlike 6 [va_rf (some a0), .int i_2, .int (0 : Int32)] h4 k n (fun i11 h10 k14 n15 =>
((i11 = 0 → V G E Y_X1_isBalanced cX1_isBalanced 3 (QM G E (kI K) xN) h10 k14 n15 42 [(0, .ref a0), (1, .int (i_1 &&& (0 : Int32))), (2, .int (i_2 + (1 : Int32)))] []) ∧
(¬ (i11 = 0) → rv h10 (some a0) 1 (dI G Y_X1_areAlike cX1_areAlike 6 [va_rf (some a0), .int i_2, .int (1 : Int32)] h10 k14 n15 (fun i21 h20 k24 n25 =>
((i21 = 0 → V G E Y_X1_isBalanced cX1_isBalanced 3 (QM G E (kI K) xN) h20 k24 n25 42 [(0, .ref a0), (1, .int (i_1 &&& (0 : Int32))), (2, .int (i_2 + (1 : Int32)))] []) ∧
(¬ (i21 = 0) → V G E Y_X1_isBalanced cX1_isBalanced 3 (QM G E (kI K) xN) h20 k24 n25 42 [(0, .ref a0), (1, .int (i_1 &&& (1 : Int32))), (2, .int (i_2 + (1 : Int32)))] []))) xN)))) xN)))))
theorem s_X1_isBalanced_42 {G : Gt} {E : Ev} {h : Hp} {k0 n0 : Nat} {a0 : Nat} {i_1 : Int32} {i_2 : Int32} {K : Int32 → Hp → Prop} (hG : Base G) (hA : 0 ≤ k0) (hB : 0 ≤ n0) (hf : g_X1_isBalanced_42 G E h (k0 - 0) (n0 - 0) a0 i_1 i_2 K) : V G E Y_X1_isBalanced cX1_isBalanced 3 (QM G E (kI K) xN) h k0 n0 42 [(0, .ref a0), (1, .int i_1), (2, .int i_2)] [] := by
  obtain ⟨k, hk9⟩ : ∃ z, z = k0 - 0 := ⟨_, rfl⟩
  obtain ⟨n, hn9⟩ : ∃ z, z = n0 - 0 := ⟨_, rfl⟩
  rw [← hk9, ← hn9] at hf
  refine V.weak (k' := k + 0) (n' := n + 0) ?_ (by omega) (by omega)
  unfold g_X1_isBalanced_42 at hf
  refine v_iload_n (i := 2) dX1_isBalanced_42 rfl rfl ?_
  refine v_aload_n (i := 0) dX1_isBalanced_43 rfl rfl ?_
  replace hf := rv_e hf
  obtain ⟨w1, fs2, hh3, hf⟩ := hf
  refine V.addK0 ?_
  refine V.addN0 ?_
  refine v_callV (mc := 0) (ms := 0) 0 dX1_isBalanced_44 (m_X1_many hG hf) rfl hh3 rfl (lw_V q504 q505 q506 q89 q507) rfl (by decide +kernel) (by decide) rfl (cat_len (Nat.le_of_ble_eq_true rfl)) (kk_I fun i5 h4 hg => ?_) (fun _ _ _ hx => hx.elim)
  replace hf := hg
  clear hg
  refine v_icmp_ge 82 dX1_isBalanced_47 (by decide) (fun c6 => ?_) (fun c6 => ?_)
  · replace hf := hf.1 c6
    refine v_iload_n (i := 1) dX1_isBalanced_82 rfl rfl ?_
    exact v_zret dX1_isBalanced_83 rfl hf.1 ⟨_, rfl, hf.2⟩
  · replace hf := hf.2 c6
    refine v_iload_n (i := 1) dX1_isBalanced_50 rfl rfl ?_
    refine v_aload_n (i := 0) dX1_isBalanced_51 rfl rfl ?_
    refine v_iload_n (i := 2) dX1_isBalanced_52 rfl rfl ?_
    refine v_iconst (v := 0) dX1_isBalanced_53 (by decide) ?_
    replace hf := rv_e hf
    obtain ⟨w7, fs8, hh9, hf⟩ := hf
    obtain ⟨mc12, ms13, hkmc12, hnms13, hM⟩ := hf
    refine V.weak (k' := ((k - mc12) + 0) + mc12) (n' := ((n - ms13) + 0) + ms13) ?_ (by omega) (by omega)
    refine v_callV 2 dX1_isBalanced_54 hM rfl hh9 rfl (lw_V q2424 q2426 qs46 q89 q2427) rfl (by decide +kernel) (by decide) rfl (cat_len (Nat.le_of_ble_eq_true rfl)) (kk_I fun i11 h10 hg => ?_) (fun _ _ _ hx => hx.elim)
    have hf := hg
    clear hg
    refine v_if_eq 73 dX1_isBalanced_57 (by decide) (fun c16 => ?_) (fun c16 => ?_)
    · replace hf := hf.1 c16
      refine v_iconst (v := 0) dX1_isBalanced_73 (by decide) ?_
      refine v_iand dX1_isBalanced_74 ?_
      refine v_istore_n (i := 1) (lv' := [(0, .ref a0), (1, .int (i_1 &&& (0 : Int32))), (2, .int i_2)]) dX1_isBalanced_75 rfl (Nat.le_of_ble_eq_true rfl) rfl rfl ?_
      refine v_iinc (i := 2) (v := i_2 + (1 : Int32)) (lv' := [(0, .ref a0), (1, .int (i_1 &&& (0 : Int32))), (2, .int (i_2 + (1 : Int32)))]) dX1_isBalanced_76 rfl rfl (Nat.le_of_ble_eq_true rfl) rfl rfl ?_
      refine v_goto 42 dX1_isBalanced_79 (by decide) ?_
      exact V.weak hf (by omega) (by omega)
    · replace hf := hf.2 c16
      refine v_aload_n (i := 0) dX1_isBalanced_60 rfl rfl ?_
      refine v_iload_n (i := 2) dX1_isBalanced_61 rfl rfl ?_
      refine v_iconst (v := 1) dX1_isBalanced_62 (by decide) ?_
      replace hf := rv_e hf
      obtain ⟨w17, fs18, hh19, hf⟩ := hf
      obtain ⟨mc22, ms23, hkmc22, hnms23, hM⟩ := hf
      refine V.weak (k' := (((k - mc12) - mc22) + 0) + mc22) (n' := (((n - ms13) - ms23) + 0) + ms23) ?_ (by omega) (by omega)
      refine v_callV 2 dX1_isBalanced_63 hM rfl hh19 rfl (lw_V q2424 q2426 qs46 q89 q2427) rfl (by decide +kernel) (by decide) rfl (cat_len (Nat.le_of_ble_eq_true rfl)) (kk_I fun i21 h20 hg => ?_) (fun _ _ _ hx => hx.elim)
      have hf := hg
      clear hg
      refine v_if_eq 73 dX1_isBalanced_66 (by decide) (fun c26 => ?_) (fun c26 => ?_)
      · replace hf := hf.1 c26
        refine v_iconst (v := 0) dX1_isBalanced_73 (by decide) ?_
        refine v_iand dX1_isBalanced_74 ?_
        refine v_istore_n (i := 1) (lv' := [(0, .ref a0), (1, .int (i_1 &&& (0 : Int32))), (2, .int i_2)]) dX1_isBalanced_75 rfl (Nat.le_of_ble_eq_true rfl) rfl rfl ?_
        refine v_iinc (i := 2) (v := i_2 + (1 : Int32)) (lv' := [(0, .ref a0), (1, .int (i_1 &&& (0 : Int32))), (2, .int (i_2 + (1 : Int32)))]) dX1_isBalanced_76 rfl rfl (Nat.le_of_ble_eq_true rfl) rfl rfl ?_
        refine v_goto 42 dX1_isBalanced_79 (by decide) ?_
        exact V.weak hf (by omega) (by omega)
      · replace hf := hf.2 c26
        refine v_iconst (v := 1) dX1_isBalanced_69 (by decide) ?_
        refine v_goto 74 dX1_isBalanced_70 (by decide) ?_
        refine v_iand dX1_isBalanced_74 ?_
        refine v_istore_n (i := 1) (lv' := [(0, .ref a0), (1, .int (i_1 &&& (1 : Int32))), (2, .int i_2)]) dX1_isBalanced_75 rfl (Nat.le_of_ble_eq_true rfl) rfl rfl ?_
        refine v_iinc (i := 2) (v := i_2 + (1 : Int32)) (lv' := [(0, .ref a0), (1, .int (i_1 &&& (1 : Int32))), (2, .int (i_2 + (1 : Int32)))]) dX1_isBalanced_76 rfl rfl (Nat.le_of_ble_eq_true rfl) rfl rfl ?_
        refine v_goto 42 dX1_isBalanced_79 (by decide) ?_
        exact V.weak hf (by omega) (by omega)
theorem b_X1_isBalanced {G : Gt} {h : Hp} {mc ms : Nat} {a0 : Nat} {K : Int32 → Hp → Prop} (hG : Base G) (hf : ∀ E : Ev, V G E Y_X1_isBalanced cX1_isBalanced 3 (QM G E (kI K) xN) h mc ms 0 [(0, .ref a0)] []) : MM G Y_X1_isBalanced cX1_isBalanced 3 mc ms [.ref a0] h (kI K) xN := mm_of hG (by decide +kernel) rfl (ac_c rfl ac_nil) (Nat.le_of_ble_eq_true rfl) (fun E _ _ => hf E)
