/-! walks printed by tools/mkwalk.py -/
set_option maxRecDepth 100000
abbrev Y_X2_door : Yt := (yX2_door, some (.int), 3, 86, [])
def f_X2_door (G : Gt) (h : Hp) (k n : Nat) (t_0 : Option Nat) (i_1 : Int32) (i_2 : Int32) (i_3 : Int32) (i_4 : Int32) (K : Int32 → Hp → Prop) : Prop :=
rv h t_0 2 (f_X2_isRoom G h t_0 i_1 (fun i5 h4 =>
((i5 = 0 → K (-1011 : Int32) h4) ∧
(¬ (i5 = 0) → rv h4 t_0 2 (f_X2_isRoom G h4 t_0 i_2 (fun i11 h10 =>
((¬ (i11 = 0) → f_X2_in G h10 i_3 (0 : Int32) (2 : Int32) (fun i14 h13 =>
((i14 = 0 → K (-1012 : Int32) h13) ∧
(¬ (i14 = 0) → f_X2_in G h13 i_4 (-1 : Int32) (2 : Int32) (fun i17 h16 =>
((¬ (i17 = 0) → ((¬ (i_1 = i_2) → rv h16 t_0 2 (dI G Y_X2_between cX2_between 4 [va_rf t_0, .int i_1, .int i_2] h16 k n (fun i24 h23 k27 n28 =>
((i24 < 0 → gR h23 t_0 2 0 fun r30 =>
aI h23 r30 0 (1 : Int32) fun i41 =>
((¬ (i41 = (16 : Int32)) → gR h23 t_0 2 0 fun r43 =>
rv h23 t_0 2 (dV G Y_X2_keeps cX2_keeps 3 [va_rf t_0, va_rf r43] h23 k27 n28 (fun h51 k54 n55 =>
gR h51 t_0 2 0 fun r56 =>
aI h51 r56 0 (1 : Int32) fun i67 =>
gR h51 t_0 2 0 fun r68 =>
f_X2_least G h51 i_1 i_2 (fun i74 h73 =>
sI h73 r68 (((50 : Int32) + ((6 : Int32) * i67)) + (0 : Int32)) i74 fun h80 =>
gR h80 t_0 2 0 fun r81 =>
f_X2_most G h80 i_1 i_2 (fun i87 h86 =>
sI h86 r81 (((50 : Int32) + ((6 : Int32) * i67)) + (1 : Int32)) i87 fun h93 =>
gR h93 t_0 2 0 fun r94 =>
sI h93 r94 (((50 : Int32) + ((6 : Int32) * i67)) + (2 : Int32)) i_3 fun h104 =>
gR h104 t_0 2 0 fun r105 =>
sI h104 r105 (((50 : Int32) + ((6 : Int32) * i67)) + (3 : Int32)) i_4 fun h115 =>
gR h115 t_0 2 0 fun r116 =>
((0 ≤ i_4 → sI h115 r116 (((50 : Int32) + ((6 : Int32) * i67)) + (4 : Int32)) (1 : Int32) fun h127 =>
gR h127 t_0 2 0 fun r128 =>
sI h127 r128 (((50 : Int32) + ((6 : Int32) * i67)) + (5 : Int32)) (0 : Int32) fun h138 =>
gR h138 t_0 2 0 fun r139 =>
aI h138 r139 0 (1 : Int32) fun i150 =>
sI h138 r139 (1 : Int32) (i150 + (1 : Int32)) fun h155 =>
gR h155 t_0 2 0 fun r156 =>
aI h155 r156 0 (1 : Int32) fun i167 =>
K (i167 - (1 : Int32)) h155) ∧
(¬ (0 ≤ i_4) → sI h115 r116 (((50 : Int32) + ((6 : Int32) * i67)) + (4 : Int32)) (0 : Int32) fun h173 =>
gR h173 t_0 2 0 fun r174 =>
sI h173 r174 (((50 : Int32) + ((6 : Int32) * i67)) + (5 : Int32)) (0 : Int32) fun h184 =>
gR h184 t_0 2 0 fun r185 =>
aI h184 r185 0 (1 : Int32) fun i196 =>
sI h184 r185 (1 : Int32) (i196 + (1 : Int32)) fun h201 =>
gR h201 t_0 2 0 fun r202 =>
aI h201 r202 0 (1 : Int32) fun i213 =>
K (i213 - (1 : Int32)) h201))))) xN)) ∧
(i41 = (16 : Int32) → rv h23 t_0 2 (f_X2_refuses G h23 t_0 (1 : Int32) (16 : Int32) (fun i218 h217 =>
K i218 h217))))) ∧
(¬ (i24 < 0) → rv h23 t_0 2 (dI G Y_X2_between cX2_between 4 [va_rf t_0, .int i_1, .int i_2] h23 k27 n28 (fun i223 h222 k226 n227 =>
rv h222 t_0 2 (f_X2_refuses G h222 t_0 (3 : Int32) i223 (fun i232 h231 =>
K i232 h231))) xN)))) xN)) ∧
(i_1 = i_2 → rv h16 t_0 2 (f_X2_refuses G h16 t_0 (2 : Int32) i_1 (fun i237 h236 =>
K i237 h236))))) ∧
(i17 = 0 → K (-1012 : Int32) h16))))))) ∧
(i11 = 0 → K (-1011 : Int32) h10))))))))
theorem m_X2_door {G : Gt} {h : Hp} {mc ms : Nat} {a0 : Nat} {i_1 : Int32} {i_2 : Int32} {i_3 : Int32} {i_4 : Int32} {K : Int32 → Hp → Prop} (hG : Base G) (hA : 0 ≤ mc) (hB : 0 ≤ ms) (hf : f_X2_door G h (mc - 0) (ms - 0) (some a0) i_1 i_2 i_3 i_4 K) : MM G Y_X2_door cX2_door 6 mc ms [.ref a0, .int i_1, .int i_2, .int i_3, .int i_4] h (kI K) xN := by
  refine mm_of hG (by decide +kernel) rfl (ac_c rfl (ac_c rfl (ac_c rfl (ac_c rfl (ac_c rfl ac_nil))))) (Nat.le_of_ble_eq_true rfl) (fun E _ _ => ?_)
  obtain ⟨k, hk9⟩ : ∃ z, z = mc - 0 := ⟨_, rfl⟩
  obtain ⟨n, hn9⟩ : ∃ z, z = ms - 0 := ⟨_, rfl⟩
  rw [← hk9, ← hn9] at hf
  refine V.weak (k' := k + 0) (n' := n + 0) ?_ (by omega) (by omega)
  show V G E Y_X2_door cX2_door 6 (QM G E (kI K) xN) h (k + 0) (n + 0) 0 [(0, .ref a0), (1, .int i_1), (2, .int i_2), (3, .int i_3), (4, .int i_4)] []
  unfold f_X2_door at hf
  refine v_qload_n (r := (some a0)) (i := 0) dX2_door_0 rfl rfl ?_
  refine v_iload_n (i := 1) dX2_door_1 rfl rfl ?_
  replace hf := rv_e hf
  obtain ⟨w1, fs2, hh3, hf⟩ := hf
  refine V.addK0 ?_
  refine V.addN0 ?_
  refine v_callV (mc := 0) (ms := 0) 1 dX2_door_2 (m_X2_isRoom hG hf) rfl hh3 rfl (lw_V q2565 q2567 qs49 q98 q2568) rfl (by decide +kernel) (by decide) rfl (cat_len (Nat.le_of_ble_eq_true rfl)) (kk_I fun i5 h4 hg => ?_) (fun _ _ _ hx => hx.elim)
  replace hf := hg
  clear hg
  refine v_if_eq 16 dX2_door_5 (by decide) (fun c6 => ?_) (fun c6 => ?_)
  · replace hf := hf.1 c6
    refine v_sipush (v := -1011) dX2_door_16 (by decide) ?_
    exact v_iret dX2_door_19 rfl ⟨_, rfl, hf⟩
  · replace hf := hf.2 c6
    refine v_qload_n (r := (some a0)) (i := 0) dX2_door_8 rfl rfl ?_
    refine v_iload_n (i := 2) dX2_door_9 rfl rfl ?_
    replace hf := rv_e hf
    obtain ⟨w7, fs8, hh9, hf⟩ := hf
    refine V.addK0 ?_
    refine V.addN0 ?_
    refine v_callV (mc := 0) (ms := 0) 1 dX2_door_10 (m_X2_isRoom hG hf) rfl hh9 rfl (lw_V q2565 q2567 qs49 q98 q2568) rfl (by decide +kernel) (by decide) rfl (cat_len (Nat.le_of_ble_eq_true rfl)) (kk_I fun i11 h10 hg => ?_) (fun _ _ _ hx => hx.elim)
    replace hf := hg
    clear hg
    refine v_if_ne 20 dX2_door_13 (by decide) (fun c12 => ?_) (fun c12 => ?_)
    · replace hf := hf.1 c12
      refine v_iload_n (i := 3) dX2_door_20 rfl rfl ?_
      refine v_iconst (v := 0) dX2_door_21 (by decide) ?_
      refine v_iconst (v := 2) dX2_door_22 (by decide) ?_
      refine V.addK0 ?_
      refine V.addN0 ?_
      refine v_callS (mc := 0) (ms := 0) 3 dX2_door_23 (m_X2_in hG hf) rfl (lw_S q2547 q2548 q98 q2549) rfl (by decide +kernel) (by decide) rfl (cat_len (Nat.le_of_ble_eq_true rfl)) (kk_I fun i14 h13 hg => ?_) (fun _ _ _ hx => hx.elim)
      replace hf := hg
      clear hg
      refine v_if_eq 39 dX2_door_26 (by decide) (fun c15 => ?_) (fun c15 => ?_)
      · replace hf := hf.1 c15
        refine v_sipush (v := -1012) dX2_door_39 (by decide) ?_
        exact v_iret dX2_door_42 rfl ⟨_, rfl, hf⟩
      · replace hf := hf.2 c15
        refine v_iload (i := 4) dX2_door_29 rfl ?_
        refine v_iconst (v := -1) dX2_door_31 (by decide) ?_
        refine v_iconst (v := 2) dX2_door_32 (by decide) ?_
        refine V.addK0 ?_
        refine V.addN0 ?_
        refine v_callS (mc := 0) (ms := 0) 3 dX2_door_33 (m_X2_in hG hf) rfl (lw_S q2547 q2548 q98 q2549) rfl (by decide +kernel) (by decide) rfl (cat_len (Nat.le_of_ble_eq_true rfl)) (kk_I fun i17 h16 hg => ?_) (fun _ _ _ hx => hx.elim)
        replace hf := hg
        clear hg
        refine v_if_ne 43 dX2_door_36 (by decide) (fun c18 => ?_) (fun c18 => ?_)
        · replace hf := hf.1 c18
          refine v_iload_n (i := 1) dX2_door_43 rfl rfl ?_
          refine v_iload_n (i := 2) dX2_door_44 rfl rfl ?_
          refine v_icmp_ne 55 dX2_door_45 (by decide) (fun c19 => ?_) (fun c19 => ?_)
          · replace hf := hf.1 c19
            refine v_qload_n (r := (some a0)) (i := 0) dX2_door_55 rfl rfl ?_
            refine v_iload_n (i := 1) dX2_door_56 rfl rfl ?_
            refine v_iload_n (i := 2) dX2_door_57 rfl rfl ?_
            replace hf := rv_e hf
            obtain ⟨w20, fs21, hh22, hf⟩ := hf
            obtain ⟨mc25, ms26, hkmc25, hnms26, hM⟩ := hf
            refine V.weak (k' := ((k - mc25) + 0) + mc25) (n' := ((n - ms26) + 0) + ms26) ?_ (by omega) (by omega)
            refine v_callV 2 dX2_door_58 hM rfl hh22 rfl (lw_V q2569 q2571 qs50 q98 q2572) rfl (by decide +kernel) (by decide) rfl (cat_len (Nat.le_of_ble_eq_true rfl)) (kk_I fun i24 h23 hg => ?_) (fun _ _ _ hx => hx.elim)
            have hf := hg
            clear hg
            refine v_if_lt 76 dX2_door_61 (by decide) (fun c29 => ?_) (fun c29 => ?_)
            · replace hf := hf.1 c29
              refine v_qload_n (r := (some a0)) (i := 0) dX2_door_76 rfl rfl ?_
              replace hf := gR_e hf
              obtain ⟨w31, fs32, r30, hh33, hk34, hf⟩ := hf
              refine v_getf (T := TX2) (ci := 2) 0 dX2_door_77 q2488 rfl in_X2 (Nat.le_of_ble_eq_true rfl) (Or.inl rfl) hh33 hk34 ?_
              refine v_iconst (v := 1) dX2_door_80 (by decide) ?_
              obtain ⟨a35, rfl⟩ := aI_s hf
              replace hf := aI_e hf
              obtain ⟨w36, N37, f38, hh39, hi40, i41, ei41, hf⟩ := hf
              refine v_iald dX2_door_81 hh39 hi40 ?_
              rw [← ei41]
              refine v_bipush (v := 16) dX2_door_82 (by decide) ?_
              refine v_icmp_ne 95 dX2_door_84 (by decide) (fun c42 => ?_) (fun c42 => ?_)
              · replace hf := hf.1 c42
                refine v_qload_n (r := (some a0)) (i := 0) dX2_door_95 rfl rfl ?_
                refine v_qload_n (r := (some a0)) (i := 0) dX2_door_96 rfl rfl ?_
                replace hf := gR_e hf
                obtain ⟨w44, fs45, r43, hh46, hk47, hf⟩ := hf
                refine v_getf (T := TX2) (ci := 2) 0 dX2_door_97 q2488 rfl in_X2 (Nat.le_of_ble_eq_true rfl) (Or.inl rfl) hh46 hk47 ?_
                replace hf := rv_e hf
                obtain ⟨w48, fs49, hh50, hf⟩ := hf
                obtain ⟨mc52, ms53, hkmc52, hnms53, hM⟩ := hf
                refine V.weak (k' := (((k - mc25) - mc52) + 0) + mc52) (n' := (((n - ms26) - ms53) + 0) + ms53) ?_ (by omega) (by omega)
                refine v_callV 1 dX2_door_100 hM rfl hh50 rfl (lw_V q2554 q2556 qs48 q98 q2557) rfl (by decide +kernel) (by decide) rfl (cat_len (Nat.le_of_ble_eq_true rfl)) (kk_V fun h51 hg => ?_) (fun _ _ _ hx => hx.elim)
                have hf := hg
                clear hg
                refine v_bipush (v := 50) dX2_door_103 (by decide) ?_
                refine v_bipush (v := 6) dX2_door_105 (by decide) ?_
                refine v_qload_n (r := (some a0)) (i := 0) dX2_door_107 rfl rfl ?_
                replace hf := gR_e hf
                obtain ⟨w57, fs58, r56, hh59, hk60, hf⟩ := hf
                refine v_getf (T := TX2) (ci := 2) 0 dX2_door_108 q2488 rfl in_X2 (Nat.le_of_ble_eq_true rfl) (Or.inl rfl) hh59 hk60 ?_
                refine v_iconst (v := 1) dX2_door_111 (by decide) ?_
                obtain ⟨a61, rfl⟩ := aI_s hf
                replace hf := aI_e hf
                obtain ⟨w62, N63, f64, hh65, hi66, i67, ei67, hf⟩ := hf
                refine v_iald dX2_door_112 hh65 hi66 ?_
                rw [← ei67]
                refine v_imul dX2_door_113 ?_
                refine v_iadd dX2_door_114 ?_
                refine v_istore (i := 5) (lv' := [(0, va_rf (some a0)), (1, .int i_1), (2, .int i_2), (3, .int i_3), (4, .int i_4), (5, .int ((50 : Int32) + ((6 : Int32) * i67)))]) dX2_door_115 (Nat.le_of_ble_eq_true rfl) rfl rfl ?_
                refine v_qload_n (r := (some a0)) (i := 0) dX2_door_117 rfl rfl ?_
                replace hf := gR_e hf
                obtain ⟨w69, fs70, r68, hh71, hk72, hf⟩ := hf
                refine v_getf (T := TX2) (ci := 2) 0 dX2_door_118 q2488 rfl in_X2 (Nat.le_of_ble_eq_true rfl) (Or.inl rfl) hh71 hk72 ?_
                refine v_iload (i := 5) dX2_door_121 rfl ?_
                refine v_iconst (v := 0) dX2_door_123 (by decide) ?_
                refine v_iadd dX2_door_124 ?_
                refine v_iload_n (i := 1) dX2_door_125 rfl rfl ?_
                refine v_iload_n (i := 2) dX2_door_126 rfl rfl ?_
                refine V.addK0 ?_
                refine V.addN0 ?_
                refine v_callS (mc := 0) (ms := 0) 2 dX2_door_127 (m_X2_least hG hf) rfl (lw_S q2577 q2578 q98 q2579) rfl (by decide +kernel) (by decide) rfl (cat_len (Nat.le_of_ble_eq_true rfl)) (kk_I fun i74 h73 hg => ?_) (fun _ _ _ hx => hx.elim)
                replace hf := hg
                clear hg
                obtain ⟨a75, rfl⟩ := sI_s hf
                replace hf := sI_e hf
                obtain ⟨N76, f77, hh78, hi79, hf⟩ := hf
                refine v_iast dX2_door_130 hh78 hi79 ?_
                obtain ⟨h80, eh80⟩ : ∃ z, z = hs h73 a75 (true, .inl (0, N76, .inl (upd f77 (((50 : Int32) + ((6 : Int32) * i67)) + (0 : Int32)).toNatClampNeg (i74)))) := ⟨_, rfl⟩
                try rw [← eh80] at hf
                rw [← eh80]
                refine v_qload_n (r := (some a0)) (i := 0) dX2_door_131 rfl rfl ?_
                replace hf := gR_e hf
                obtain ⟨w82, fs83, r81, hh84, hk85, hf⟩ := hf
                refine v_getf (T := TX2) (ci := 2) 0 dX2_door_132 q2488 rfl in_X2 (Nat.le_of_ble_eq_true rfl) (Or.inl rfl) hh84 hk85 ?_
                refine v_iload (i := 5) dX2_door_135 rfl ?_
                refine v_iconst (v := 1) dX2_door_137 (by decide) ?_
                refine v_iadd dX2_door_138 ?_
                refine v_iload_n (i := 1) dX2_door_139 rfl rfl ?_
                refine v_iload_n (i := 2) dX2_door_140 rfl rfl ?_
                refine V.addK0 ?_
                refine V.addN0 ?_
                refine v_callS (mc := 0) (ms := 0) 2 dX2_door_141 (m_X2_most hG hf) rfl (lw_S q2580 q2581 q98 q2582) rfl (by decide +kernel) (by decide) rfl (cat_len (Nat.le_of_ble_eq_true rfl)) (kk_I fun i87 h86 hg => ?_) (fun _ _ _ hx => hx.elim)
                replace hf := hg
                clear hg
                obtain ⟨a88, rfl⟩ := sI_s hf
                replace hf := sI_e hf
                obtain ⟨N89, f90, hh91, hi92, hf⟩ := hf
                refine v_iast dX2_door_144 hh91 hi92 ?_
                obtain ⟨h93, eh93⟩ : ∃ z, z = hs h86 a88 (true, .inl (0, N89, .inl (upd f90 (((50 : Int32) + ((6 : Int32) * i67)) + (1 : Int32)).toNatClampNeg (i87)))) := ⟨_, rfl⟩
                try rw [← eh93] at hf
                rw [← eh93]
                refine v_qload_n (r := (some a0)) (i := 0) dX2_door_145 rfl rfl ?_
                replace hf := gR_e hf
                obtain ⟨w95, fs96, r94, hh97, hk98, hf⟩ := hf
                refine v_getf (T := TX2) (ci := 2) 0 dX2_door_146 q2488 rfl in_X2 (Nat.le_of_ble_eq_true rfl) (Or.inl rfl) hh97 hk98 ?_
                refine v_iload (i := 5) dX2_door_149 rfl ?_
                refine v_iconst (v := 2) dX2_door_151 (by decide) ?_
                refine v_iadd dX2_door_152 ?_
                refine v_iload_n (i := 3) dX2_door_153 rfl rfl ?_
                obtain ⟨a99, rfl⟩ := sI_s hf
                replace hf := sI_e hf
                obtain ⟨N100, f101, hh102, hi103, hf⟩ := hf
                refine v_iast dX2_door_154 hh102 hi103 ?_
                obtain ⟨h104, eh104⟩ : ∃ z, z = hs h93 a99 (true, .inl (0, N100, .inl (upd f101 (((50 : Int32) + ((6 : Int32) * i67)) + (2 : Int32)).toNatClampNeg (i_3)))) := ⟨_, rfl⟩
                try rw [← eh104] at hf
                rw [← eh104]
                refine v_qload_n (r := (some a0)) (i := 0) dX2_door_155 rfl rfl ?_
                replace hf := gR_e hf
                obtain ⟨w106, fs107, r105, hh108, hk109, hf⟩ := hf
                refine v_getf (T := TX2) (ci := 2) 0 dX2_door_156 q2488 rfl in_X2 (Nat.le_of_ble_eq_true rfl) (Or.inl rfl) hh108 hk109 ?_
                refine v_iload (i := 5) dX2_door_159 rfl ?_
                refine v_iconst (v := 3) dX2_door_161 (by decide) ?_
                refine v_iadd dX2_door_162 ?_
                refine v_iload (i := 4) dX2_door_163 rfl ?_
                obtain ⟨a110, rfl⟩ := sI_s hf
                replace hf := sI_e hf
                obtain ⟨N111, f112, hh113, hi114, hf⟩ := hf
                refine v_iast dX2_door_165 hh113 hi114 ?_
                obtain ⟨h115, eh115⟩ : ∃ z, z = hs h104 a110 (true, .inl (0, N111, .inl (upd f112 (((50 : Int32) + ((6 : Int32) * i67)) + (3 : Int32)).toNatClampNeg (i_4)))) := ⟨_, rfl⟩
                try rw [← eh115] at hf
                rw [← eh115]
                refine v_qload_n (r := (some a0)) (i := 0) dX2_door_166 rfl rfl ?_
                replace hf := gR_e hf
                obtain ⟨w117, fs118, r116, hh119, hk120, hf⟩ := hf
                refine v_getf (T := TX2) (ci := 2) 0 dX2_door_167 q2488 rfl in_X2 (Nat.le_of_ble_eq_true rfl) (Or.inl rfl) hh119 hk120 ?_
                refine v_iload (i := 5) dX2_door_170 rfl ?_
                refine v_iconst (v := 4) dX2_door_172 (by decide) ?_
                refine v_iadd dX2_door_173 ?_
                refine v_iload (i := 4) dX2_door_174 rfl ?_
                refine v_if_ge 183 dX2_door_176 (by decide) (fun c121 => ?_) (fun c121 => ?_)
                · replace hf := hf.1 c121
                  refine v_iconst (v := 1) dX2_door_183 (by decide) ?_
                  obtain ⟨a122, rfl⟩ := sI_s hf
                  replace hf := sI_e hf
                  obtain ⟨N123, f124, hh125, hi126, hf⟩ := hf
                  refine v_iast dX2_door_184 hh125 hi126 ?_
                  obtain ⟨h127, eh127⟩ : ∃ z, z = hs h115 a122 (true, .inl (0, N123, .inl (upd f124 (((50 : Int32) + ((6 : Int32) * i67)) + (4 : Int32)).toNatClampNeg ((1 : Int32))))) := ⟨_, rfl⟩
                  try rw [← eh127] at hf
                  rw [← eh127]
                  refine v_qload_n (r := (some a0)) (i := 0) dX2_door_185 rfl rfl ?_
                  replace hf := gR_e hf
                  obtain ⟨w129, fs130, r128, hh131, hk132, hf⟩ := hf
                  refine v_getf (T := TX2) (ci := 2) 0 dX2_door_186 q2488 rfl in_X2 (Nat.le_of_ble_eq_true rfl) (Or.inl rfl) hh131 hk132 ?_
                  refine v_iload (i := 5) dX2_door_189 rfl ?_
                  refine v_iconst (v := 5) dX2_door_191 (by decide) ?_
                  refine v_iadd dX2_door_192 ?_
                  refine v_iconst (v := 0) dX2_door_193 (by decide) ?_
                  obtain ⟨a133, rfl⟩ := sI_s hf
                  replace hf := sI_e hf
                  obtain ⟨N134, f135, hh136, hi137, hf⟩ := hf
                  refine v_iast dX2_door_194 hh136 hi137 ?_
                  obtain ⟨h138, eh138⟩ : ∃ z, z = hs h127 a133 (true, .inl (0, N134, .inl (upd f135 (((50 : Int32) + ((6 : Int32) * i67)) + (5 : Int32)).toNatClampNeg ((0 : Int32))))) := ⟨_, rfl⟩
                  try rw [← eh138] at hf
                  rw [← eh138]
                  refine v_qload_n (r := (some a0)) (i := 0) dX2_door_195 rfl rfl ?_
                  replace hf := gR_e hf
                  obtain ⟨w140, fs141, r139, hh142, hk143, hf⟩ := hf
                  refine v_getf (T := TX2) (ci := 2) 0 dX2_door_196 q2488 rfl in_X2 (Nat.le_of_ble_eq_true rfl) (Or.inl rfl) hh142 hk143 ?_
                  refine v_iconst (v := 1) dX2_door_199 (by decide) ?_
                  refine v_dup2 dX2_door_200 rfl (rf_cat _) ?_
                  obtain ⟨a144, rfl⟩ := aI_s hf
                  replace hf := aI_e hf
                  obtain ⟨w145, N146, f147, hh148, hi149, i150, ei150, hf⟩ := hf
                  refine v_iald dX2_door_201 hh148 hi149 ?_
                  rw [← ei150]
                  refine v_iconst (v := 1) dX2_door_202 (by decide) ?_
                  refine v_iadd dX2_door_203 ?_
                  replace hf := sI_e hf
                  obtain ⟨N151, f152, hh153, hi154, hf⟩ := hf
                  refine v_iast dX2_door_204 hh153 hi154 ?_
                  obtain ⟨h155, eh155⟩ : ∃ z, z = hs h138 a144 (true, .inl (0, N151, .inl (upd f152 ((1 : Int32)).toNatClampNeg (i150 + (1 : Int32))))) := ⟨_, rfl⟩
                  try rw [← eh155] at hf
                  rw [← eh155]
                  refine v_qload_n (r := (some a0)) (i := 0) dX2_door_205 rfl rfl ?_
                  replace hf := gR_e hf
                  obtain ⟨w157, fs158, r156, hh159, hk160, hf⟩ := hf
                  refine v_getf (T := TX2) (ci := 2) 0 dX2_door_206 q2488 rfl in_X2 (Nat.le_of_ble_eq_true rfl) (Or.inl rfl) hh159 hk160 ?_
                  refine v_iconst (v := 1) dX2_door_209 (by decide) ?_
                  obtain ⟨a161, rfl⟩ := aI_s hf
                  replace hf := aI_e hf
                  obtain ⟨w162, N163, f164, hh165, hi166, i167, ei167, hf⟩ := hf
                  refine v_iald dX2_door_210 hh165 hi166 ?_
                  rw [← ei167]
                  refine v_iconst (v := 1) dX2_door_211 (by decide) ?_
                  refine v_isub dX2_door_212 ?_
                  exact v_iret dX2_door_213 rfl ⟨_, rfl, hf⟩
                · replace hf := hf.2 c121
                  refine v_iconst (v := 0) dX2_door_179 (by decide) ?_
                  refine v_goto 184 dX2_door_180 (by decide) ?_
                  obtain ⟨a168, rfl⟩ := sI_s hf
                  replace hf := sI_e hf
                  obtain ⟨N169, f170, hh171, hi172, hf⟩ := hf
                  refine v_iast dX2_door_184 hh171 hi172 ?_
                  obtain ⟨h173, eh173⟩ : ∃ z, z = hs h115 a168 (true, .inl (0, N169, .inl (upd f170 (((50 : Int32) + ((6 : Int32) * i67)) + (4 : Int32)).toNatClampNeg ((0 : Int32))))) := ⟨_, rfl⟩
                  try rw [← eh173] at hf
                  rw [← eh173]
                  refine v_qload_n (r := (some a0)) (i := 0) dX2_door_185 rfl rfl ?_
                  replace hf := gR_e hf
                  obtain ⟨w175, fs176, r174, hh177, hk178, hf⟩ := hf
                  refine v_getf (T := TX2) (ci := 2) 0 dX2_door_186 q2488 rfl in_X2 (Nat.le_of_ble_eq_true rfl) (Or.inl rfl) hh177 hk178 ?_
                  refine v_iload (i := 5) dX2_door_189 rfl ?_
                  refine v_iconst (v := 5) dX2_door_191 (by decide) ?_
                  refine v_iadd dX2_door_192 ?_
                  refine v_iconst (v := 0) dX2_door_193 (by decide) ?_
                  obtain ⟨a179, rfl⟩ := sI_s hf
                  replace hf := sI_e hf
                  obtain ⟨N180, f181, hh182, hi183, hf⟩ := hf
                  refine v_iast dX2_door_194 hh182 hi183 ?_
                  obtain ⟨h184, eh184⟩ : ∃ z, z = hs h173 a179 (true, .inl (0, N180, .inl (upd f181 (((50 : Int32) + ((6 : Int32) * i67)) + (5 : Int32)).toNatClampNeg ((0 : Int32))))) := ⟨_, rfl⟩
                  try rw [← eh184] at hf
                  rw [← eh184]
                  refine v_qload_n (r := (some a0)) (i := 0) dX2_door_195 rfl rfl ?_
                  replace hf := gR_e hf
                  obtain ⟨w186, fs187, r185, hh188, hk189, hf⟩ := hf
                  refine v_getf (T := TX2) (ci := 2) 0 dX2_door_196 q2488 rfl in_X2 (Nat.le_of_ble_eq_true rfl) (Or.inl rfl) hh188 hk189 ?_
                  refine v_iconst (v := 1) dX2_door_199 (by decide) ?_
                  refine v_dup2 dX2_door_200 rfl (rf_cat _) ?_
                  obtain ⟨a190, rfl⟩ := aI_s hf
                  replace hf := aI_e hf
                  obtain ⟨w191, N192, f193, hh194, hi195, i196, ei196, hf⟩ := hf
                  refine v_iald dX2_door_201 hh194 hi195 ?_
                  rw [← ei196]
                  refine v_iconst (v := 1) dX2_door_202 (by decide) ?_
                  refine v_iadd dX2_door_203 ?_
                  replace hf := sI_e hf
                  obtain ⟨N197, f198, hh199, hi200, hf⟩ := hf
                  refine v_iast dX2_door_204 hh199 hi200 ?_
                  obtain ⟨h201, eh201⟩ : ∃ z, z = hs h184 a190 (true, .inl (0, N197, .inl (upd f198 ((1 : Int32)).toNatClampNeg (i196 + (1 : Int32))))) := ⟨_, rfl⟩
                  try rw [← eh201] at hf
                  rw [← eh201]
                  refine v_qload_n (r := (some a0)) (i := 0) dX2_door_205 rfl rfl ?_
                  replace hf := gR_e hf
                  obtain ⟨w203, fs204, r202, hh205, hk206, hf⟩ := hf
                  refine v_getf (T := TX2) (ci := 2) 0 dX2_door_206 q2488 rfl in_X2 (Nat.le_of_ble_eq_true rfl) (Or.inl rfl) hh205 hk206 ?_
                  refine v_iconst (v := 1) dX2_door_209 (by decide) ?_
                  obtain ⟨a207, rfl⟩ := aI_s hf
                  replace hf := aI_e hf
                  obtain ⟨w208, N209, f210, hh211, hi212, i213, ei213, hf⟩ := hf
                  refine v_iald dX2_door_210 hh211 hi212 ?_
                  rw [← ei213]
                  refine v_iconst (v := 1) dX2_door_211 (by decide) ?_
                  refine v_isub dX2_door_212 ?_
                  exact v_iret dX2_door_213 rfl ⟨_, rfl, hf⟩
              · replace hf := hf.2 c42
                refine v_qload_n (r := (some a0)) (i := 0) dX2_door_87 rfl rfl ?_
                refine v_iconst (v := 1) dX2_door_88 (by decide) ?_
                refine v_bipush (v := 16) dX2_door_89 (by decide) ?_
                replace hf := rv_e hf
                obtain ⟨w214, fs215, hh216, hf⟩ := hf
                refine V.addK0 ?_
                refine V.addN0 ?_
                refine v_callV (mc := 0) (ms := 0) 2 dX2_door_91 (m_X2_refuses hG hf) rfl hh216 rfl (lw_V q2550 q2552 qs47 q98 q2553) rfl (by decide +kernel) (by decide) rfl (cat_len (Nat.le_of_ble_eq_true rfl)) (kk_I fun i218 h217 hg => ?_) (fun _ _ _ hx => hx.elim)
                replace hf := hg
                clear hg
                exact v_iret dX2_door_94 rfl ⟨_, rfl, hf⟩
            · replace hf := hf.2 c29
              refine v_qload_n (r := (some a0)) (i := 0) dX2_door_64 rfl rfl ?_
              refine v_iconst (v := 3) dX2_door_65 (by decide) ?_
              refine v_qload_n (r := (some a0)) (i := 0) dX2_door_66 rfl rfl ?_
              refine v_iload_n (i := 1) dX2_door_67 rfl rfl ?_
              refine v_iload_n (i := 2) dX2_door_68 rfl rfl ?_
              replace hf := rv_e hf
              obtain ⟨w219, fs220, hh221, hf⟩ := hf
              obtain ⟨mc224, ms225, hkmc224, hnms225, hM⟩ := hf
              refine V.weak (k' := (((k - mc25) - mc224) + 0) + mc224) (n' := (((n - ms26) - ms225) + 0) + ms225) ?_ (by omega) (by omega)
              refine v_callV 2 dX2_door_69 hM rfl hh221 rfl (lw_V q2569 q2571 qs50 q98 q2572) rfl (by decide +kernel) (by decide) rfl (cat_len (Nat.le_of_ble_eq_true rfl)) (kk_I fun i223 h222 hg => ?_) (fun _ _ _ hx => hx.elim)
              have hf := hg
              clear hg
              replace hf := rv_e hf
              obtain ⟨w228, fs229, hh230, hf⟩ := hf
              refine V.addK0 ?_
              refine V.addN0 ?_
              refine v_callV (mc := 0) (ms := 0) 2 dX2_door_72 (m_X2_refuses hG hf) rfl hh230 rfl (lw_V q2550 q2552 qs47 q98 q2553) rfl (by decide +kernel) (by decide) rfl (cat_len (Nat.le_of_ble_eq_true rfl)) (kk_I fun i232 h231 hg => ?_) (fun _ _ _ hx => hx.elim)
              replace hf := hg
              clear hg
              exact v_iret dX2_door_75 rfl ⟨_, rfl, hf⟩
          · replace hf := hf.2 c19
            refine v_qload_n (r := (some a0)) (i := 0) dX2_door_48 rfl rfl ?_
            refine v_iconst (v := 2) dX2_door_49 (by decide) ?_
            refine v_iload_n (i := 1) dX2_door_50 rfl rfl ?_
            replace hf := rv_e hf
            obtain ⟨w233, fs234, hh235, hf⟩ := hf
            refine V.addK0 ?_
            refine V.addN0 ?_
            refine v_callV (mc := 0) (ms := 0) 2 dX2_door_51 (m_X2_refuses hG hf) rfl hh235 rfl (lw_V q2550 q2552 qs47 q98 q2553) rfl (by decide +kernel) (by decide) rfl (cat_len (Nat.le_of_ble_eq_true rfl)) (kk_I fun i237 h236 hg => ?_) (fun _ _ _ hx => hx.elim)
            replace hf := hg
            clear hg
            exact v_iret dX2_door_54 rfl ⟨_, rfl, hf⟩
        · replace hf := hf.2 c18
          refine v_sipush (v := -1012) dX2_door_39 (by decide) ?_
          exact v_iret dX2_door_42 rfl ⟨_, rfl, hf⟩
    · replace hf := hf.2 c12
      refine v_sipush (v := -1011) dX2_door_16 (by decide) ?_
      exact v_iret dX2_door_19 rfl ⟨_, rfl, hf⟩
abbrev Y_X2_go : Yt := (yX2_go, some (.int), 3, 86, [])
def f_X2_go (G : Gt) (h : Hp) (k n : Nat) (t_0 : Option Nat) (i_1 : Int32) (K : Int32 → Hp → Prop) : Prop :=
rv h t_0 2 (f_X2_isDoor G h t_0 i_1 (fun i5 h4 =>
((¬ (i5 = 0) → gR h4 t_0 2 0 fun r7 =>
aI h4 r7 0 (2 : Int32) fun i18 =>
rv h4 t_0 2 (f_X2_isAt G h4 t_0 i18 i_1 (fun i23 h22 =>
((¬ (i23 = 0) → rv h22 t_0 2 (f_X2_of G h22 t_0 i_1 (4 : Int32) (fun i29 h28 =>
((¬ (i29 = (1 : Int32)) → gR h28 t_0 2 0 fun r31 =>
aI h28 r31 0 (3 : Int32) fun i42 =>
rv h28 t_0 2 (f_X2_needs G h28 t_0 i18 (fun i47 h46 =>
rv h46 t_0 2 (f_X2_isFor G h46 t_0 i_1 (i42 + i47) (fun i52 h51 =>
((¬ (i52 = 0) → gR h51 t_0 2 0 fun r54 =>
rv h51 t_0 2 (dV G Y_X2_keeps cX2_keeps 3 [va_rf t_0, va_rf r54] h51 k n (fun h62 k65 n66 =>
rv h62 t_0 2 (f_X2_needs G h62 t_0 i18 (fun i71 h70 =>
rv h70 t_0 2 (dI G Y_X2_burns cX2_burns 5 [va_rf t_0, .int i71] h70 k65 n66 (fun i76 h75 k79 n80 =>
gR h75 t_0 2 0 fun r81 =>
rv h75 t_0 2 (f_X2_behind G h75 t_0 i18 i_1 (fun i90 h89 =>
sI h89 r81 (2 : Int32) i90 fun h96 =>
gR h96 t_0 2 0 fun r97 =>
aI h96 r97 0 (((50 : Int32) + ((6 : Int32) * i_1)) + (5 : Int32)) fun i108 =>
sI h96 r97 (((50 : Int32) + ((6 : Int32) * i_1)) + (5 : Int32)) (i108 + (1 : Int32)) fun h113 =>
gR h113 t_0 2 0 fun r114 =>
aI h113 r114 0 (9 : Int32) fun i125 =>
((0 ≤ i76 → sI h113 r114 (9 : Int32) (i125 + (1 : Int32)) fun h131 =>
gR h131 t_0 2 0 fun r132 =>
aI h131 r132 0 (2 : Int32) fun i143 =>
K i143 h131) ∧
(¬ (0 ≤ i76) → sI h113 r114 (9 : Int32) (i125 + (0 : Int32)) fun h148 =>
gR h148 t_0 2 0 fun r149 =>
aI h148 r149 0 (2 : Int32) fun i160 =>
K i160 h148))))) xN)))) xN)) ∧
(i52 = 0 → rv h51 t_0 2 (f_X2_refuses G h51 t_0 (6 : Int32) (i42 + i47) (fun i165 h164 =>
K i165 h164))))))))) ∧
(i29 = (1 : Int32) → rv h28 t_0 2 (f_X2_of G h28 t_0 i_1 (3 : Int32) (fun i170 h169 =>
rv h169 t_0 2 (f_X2_refuses G h169 t_0 (5 : Int32) i170 (fun i175 h174 =>
K i175 h174))))))))) ∧
(i23 = 0 → rv h22 t_0 2 (f_X2_refuses G h22 t_0 (4 : Int32) i18 (fun i180 h179 =>
K i180 h179))))))) ∧
(i5 = 0 → K (-1011 : Int32) h4))))
theorem m_X2_go {G : Gt} {h : Hp} {mc ms : Nat} {a0 : Nat} {i_1 : Int32} {K : Int32 → Hp → Prop} (hG : Base G) (hA : 0 ≤ mc) (hB : 0 ≤ ms) (hf : f_X2_go G h (mc - 0) (ms - 0) (some a0) i_1 K) : MM G Y_X2_go cX2_go 5 mc ms [.ref a0, .int i_1] h (kI K) xN := by
  refine mm_of hG (by decide +kernel) rfl (ac_c rfl (ac_c rfl ac_nil)) (Nat.le_of_ble_eq_true rfl) (fun E _ _ => ?_)
  obtain ⟨k, hk9⟩ : ∃ z, z = mc - 0 := ⟨_, rfl⟩
  obtain ⟨n, hn9⟩ : ∃ z, z = ms - 0 := ⟨_, rfl⟩
  rw [← hk9, ← hn9] at hf
  refine V.weak (k' := k + 0) (n' := n + 0) ?_ (by omega) (by omega)
  show V G E Y_X2_go cX2_go 5 (QM G E (kI K) xN) h (k + 0) (n + 0) 0 [(0, .ref a0), (1, .int i_1)] []
  unfold f_X2_go at hf
  refine v_qload_n (r := (some a0)) (i := 0) dX2_go_0 rfl rfl ?_
  refine v_iload_n (i := 1) dX2_go_1 rfl rfl ?_
  replace hf := rv_e hf
  obtain ⟨w1, fs2, hh3, hf⟩ := hf
  refine V.addK0 ?_
  refine V.addN0 ?_
  refine v_callV (mc := 0) (ms := 0) 1 dX2_go_2 (m_X2_isDoor hG hf) rfl hh3 rfl (lw_V q2602 q2604 qs53 q98 q2605) rfl (by decide +kernel) (by decide) rfl (cat_len (Nat.le_of_ble_eq_true rfl)) (kk_I fun i5 h4 hg => ?_) (fun _ _ _ hx => hx.elim)
  replace hf := hg
  clear hg
  refine v_if_ne 12 dX2_go_5 (by decide) (fun c6 => ?_) (fun c6 => ?_)
  · replace hf := hf.1 c6
    refine v_qload_n (r := (some a0)) (i := 0) dX2_go_12 rfl rfl ?_
    replace hf := gR_e hf
    obtain ⟨w8, fs9, r7, hh10, hk11, hf⟩ := hf
    refine v_getf (T := TX2) (ci := 2) 0 dX2_go_13 q2488 rfl in_X2 (Nat.le_of_ble_eq_true rfl) (Or.inl rfl) hh10 hk11 ?_
    refine v_iconst (v := 2) dX2_go_16 (by decide) ?_
    obtain ⟨a12, rfl⟩ := aI_s hf
    replace hf := aI_e hf
    obtain ⟨w13, N14, f15, hh16, hi17, i18, ei18, hf⟩ := hf
    refine v_iald dX2_go_17 hh16 hi17 ?_
    rw [← ei18]
    refine v_istore_n (i := 2) (lv' := [(0, va_rf (some a0)), (1, .int i_1), (2, .int i18)]) dX2_go_18 rfl (Nat.le_of_ble_eq_true rfl) rfl rfl ?_
    refine v_qload_n (r := (some a0)) (i := 0) dX2_go_19 rfl rfl ?_
    refine v_iload_n (i := 2) dX2_go_20 rfl rfl ?_
    refine v_iload_n (i := 1) dX2_go_21 rfl rfl ?_
    replace hf := rv_e hf
    obtain ⟨w19, fs20, hh21, hf⟩ := hf
    refine V.addK0 ?_
    refine V.addN0 ?_
    refine v_callV (mc := 0) (ms := 0) 2 dX2_go_22 (m_X2_isAt hG hf) rfl hh21 rfl (lw_V q2606 q2608 qs54 q98 q2609) rfl (by decide +kernel) (by decide) rfl (cat_len (Nat.le_of_ble_eq_true rfl)) (kk_I fun i23 h22 hg => ?_) (fun _ _ _ hx => hx.elim)
    replace hf := hg
    clear hg
    refine v_if_ne 35 dX2_go_25 (by decide) (fun c24 => ?_) (fun c24 => ?_)
    · replace hf := hf.1 c24
      refine v_qload_n (r := (some a0)) (i := 0) dX2_go_35 rfl rfl ?_
      refine v_iload_n (i := 1) dX2_go_36 rfl rfl ?_
      refine v_iconst (v := 4) dX2_go_37 (by decide) ?_
      replace hf := rv_e hf
      obtain ⟨w25, fs26, hh27, hf⟩ := hf
      refine V.addK0 ?_
      refine V.addN0 ?_
      refine v_callV (mc := 0) (ms := 0) 2 dX2_go_38 (m_X2_of hG hf) rfl hh27 rfl (lw_V q2573 q2575 qs51 q98 q2576) rfl (by decide +kernel) (by decide) rfl (cat_len (Nat.le_of_ble_eq_true rfl)) (kk_I fun i29 h28 hg => ?_) (fun _ _ _ hx => hx.elim)
      replace hf := hg
      clear hg
      refine v_iconst (v := 1) dX2_go_41 (by decide) ?_
      refine v_icmp_ne 57 dX2_go_42 (by decide) (fun c30 => ?_) (fun c30 => ?_)
      · replace hf := hf.1 c30
        refine v_qload_n (r := (some a0)) (i := 0) dX2_go_57 rfl rfl ?_
        replace hf := gR_e hf
        obtain ⟨w32, fs33, r31, hh34, hk35, hf⟩ := hf
        refine v_getf (T := TX2) (ci := 2) 0 dX2_go_58 q2488 rfl in_X2 (Nat.le_of_ble_eq_true rfl) (Or.inl rfl) hh34 hk35 ?_
        refine v_iconst (v := 3) dX2_go_61 (by decide) ?_
        obtain ⟨a36, rfl⟩ := aI_s hf
        replace hf := aI_e hf
        obtain ⟨w37, N38, f39, hh40, hi41, i42, ei42, hf⟩ := hf
        refine v_iald dX2_go_62 hh40 hi41 ?_
        rw [← ei42]
        refine v_qload_n (r := (some a0)) (i := 0) dX2_go_63 rfl rfl ?_
        refine v_iload_n (i := 2) dX2_go_64 rfl rfl ?_
        replace hf := rv_e hf
        obtain ⟨w43, fs44, hh45, hf⟩ := hf
        refine V.addK0 ?_
        refine V.addN0 ?_
        refine v_callV (mc := 0) (ms := 0) 1 dX2_go_65 (m_X2_needs hG hf) rfl hh45 rfl (lw_V q2610 q2612 qs55 q98 q2613) rfl (by decide +kernel) (by decide) rfl (cat_len (Nat.le_of_ble_eq_true rfl)) (kk_I fun i47 h46 hg => ?_) (fun _ _ _ hx => hx.elim)
        replace hf := hg
        clear hg
        refine v_iadd dX2_go_68 ?_
        refine v_istore_n (i := 3) (lv' := [(0, va_rf (some a0)), (1, .int i_1), (2, .int i18), (3, .int (i42 + i47))]) dX2_go_69 rfl (Nat.le_of_ble_eq_true rfl) rfl rfl ?_
        refine v_qload_n (r := (some a0)) (i := 0) dX2_go_70 rfl rfl ?_
        refine v_iload_n (i := 1) dX2_go_71 rfl rfl ?_
        refine v_iload_n (i := 3) dX2_go_72 rfl rfl ?_
        replace hf := rv_e hf
        obtain ⟨w48, fs49, hh50, hf⟩ := hf
        refine V.addK0 ?_
        refine V.addN0 ?_
        refine v_callV (mc := 0) (ms := 0) 2 dX2_go_73 (m_X2_isFor hG hf) rfl hh50 rfl (lw_V q2614 q2616 qs56 q98 q2617) rfl (by decide +kernel) (by decide) rfl (cat_len (Nat.le_of_ble_eq_true rfl)) (kk_I fun i52 h51 hg => ?_) (fun _ _ _ hx => hx.elim)
        replace hf := hg
        clear hg
        refine v_if_ne 87 dX2_go_76 (by decide) (fun c53 => ?_) (fun c53 => ?_)
        · replace hf := hf.1 c53
          refine v_qload_n (r := (some a0)) (i := 0) dX2_go_87 rfl rfl ?_
          refine v_qload_n (r := (some a0)) (i := 0) dX2_go_88 rfl rfl ?_
          replace hf := gR_e hf
          obtain ⟨w55, fs56, r54, hh57, hk58, hf⟩ := hf
          refine v_getf (T := TX2) (ci := 2) 0 dX2_go_89 q2488 rfl in_X2 (Nat.le_of_ble_eq_true rfl) (Or.inl rfl) hh57 hk58 ?_
          replace hf := rv_e hf
          obtain ⟨w59, fs60, hh61, hf⟩ := hf
          obtain ⟨mc63, ms64, hkmc63, hnms64, hM⟩ := hf
          refine V.weak (k' := ((k - mc63) + 0) + mc63) (n' := ((n - ms64) + 0) + ms64) ?_ (by omega) (by omega)
          refine v_callV 1 dX2_go_92 hM rfl hh61 rfl (lw_V q2554 q2556 qs48 q98 q2557) rfl (by decide +kernel) (by decide) rfl (cat_len (Nat.le_of_ble_eq_true rfl)) (kk_V fun h62 hg => ?_) (fun _ _ _ hx => hx.elim)
          have hf := hg
          clear hg
          refine v_qload_n (r := (some a0)) (i := 0) dX2_go_95 rfl rfl ?_
          refine v_qload_n (r := (some a0)) (i := 0) dX2_go_96 rfl rfl ?_
          refine v_iload_n (i := 2) dX2_go_97 rfl rfl ?_
          replace hf := rv_e hf
          obtain ⟨w67, fs68, hh69, hf⟩ := hf
          refine V.addK0 ?_
          refine V.addN0 ?_
          refine v_callV (mc := 0) (ms := 0) 1 dX2_go_98 (m_X2_needs hG hf) rfl hh69 rfl (lw_V q2610 q2612 qs55 q98 q2613) rfl (by decide +kernel) (by decide) rfl (cat_len (Nat.le_of_ble_eq_true rfl)) (kk_I fun i71 h70 hg => ?_) (fun _ _ _ hx => hx.elim)
          replace hf := hg
          clear hg
          replace hf := rv_e hf
          obtain ⟨w72, fs73, hh74, hf⟩ := hf
          obtain ⟨mc77, ms78, hkmc77, hnms78, hM⟩ := hf
          refine V.weak (k' := (((k - mc63) - mc77) + 0) + mc77) (n' := (((n - ms64) - ms78) + 0) + ms78) ?_ (by omega) (by omega)
          refine v_callV 1 dX2_go_101 hM rfl hh74 rfl (lw_V q2618 q2620 qs57 q98 q2621) rfl (by decide +kernel) (by decide) rfl (cat_len (Nat.le_of_ble_eq_true rfl)) (kk_I fun i76 h75 hg => ?_) (fun _ _ _ hx => hx.elim)
          have hf := hg
          clear hg
          refine v_istore (i := 4) (lv' := [(0, va_rf (some a0)), (1, .int i_1), (2, .int i18), (3, .int (i42 + i47)), (4, .int i76)]) dX2_go_104 (Nat.le_of_ble_eq_true rfl) rfl rfl ?_
          refine v_qload_n (r := (some a0)) (i := 0) dX2_go_106 rfl rfl ?_
          replace hf := gR_e hf
          obtain ⟨w82, fs83, r81, hh84, hk85, hf⟩ := hf
          refine v_getf (T := TX2) (ci := 2) 0 dX2_go_107 q2488 rfl in_X2 (Nat.le_of_ble_eq_true rfl) (Or.inl rfl) hh84 hk85 ?_
          refine v_iconst (v := 2) dX2_go_110 (by decide) ?_
          refine v_qload_n (r := (some a0)) (i := 0) dX2_go_111 rfl rfl ?_
          refine v_iload_n (i := 2) dX2_go_112 rfl rfl ?_
          refine v_iload_n (i := 1) dX2_go_113 rfl rfl ?_
          replace hf := rv_e hf
          obtain ⟨w86, fs87, hh88, hf⟩ := hf
          refine V.addK0 ?_
          refine V.addN0 ?_
          refine v_callV (mc := 0) (ms := 0) 2 dX2_go_114 (m_X2_behind hG hf) rfl hh88 rfl (lw_V q2622 q2624 qs58 q98 q2625) rfl (by decide +kernel) (by decide) rfl (cat_len (Nat.le_of_ble_eq_true rfl)) (kk_I fun i90 h89 hg => ?_) (fun _ _ _ hx => hx.elim)
          replace hf := hg
          clear hg
          obtain ⟨a91, rfl⟩ := sI_s hf
          replace hf := sI_e hf
          obtain ⟨N92, f93, hh94, hi95, hf⟩ := hf
          refine v_iast dX2_go_117 hh94 hi95 ?_
          obtain ⟨h96, eh96⟩ : ∃ z, z = hs h89 a91 (true, .inl (0, N92, .inl (upd f93 ((2 : Int32)).toNatClampNeg (i90)))) := ⟨_, rfl⟩
          try rw [← eh96] at hf
          rw [← eh96]
          refine v_qload_n (r := (some a0)) (i := 0) dX2_go_118 rfl rfl ?_
          replace hf := gR_e hf
          obtain ⟨w98, fs99, r97, hh100, hk101, hf⟩ := hf
          refine v_getf (T := TX2) (ci := 2) 0 dX2_go_119 q2488 rfl in_X2 (Nat.le_of_ble_eq_true rfl) (Or.inl rfl) hh100 hk101 ?_
          refine v_bipush (v := 50) dX2_go_122 (by decide) ?_
          refine v_bipush (v := 6) dX2_go_124 (by decide) ?_
          refine v_iload_n (i := 1) dX2_go_126 rfl rfl ?_
          refine v_imul dX2_go_127 ?_
          refine v_iadd dX2_go_128 ?_
          refine v_iconst (v := 5) dX2_go_129 (by decide) ?_
          refine v_iadd dX2_go_130 ?_
          refine v_dup2 dX2_go_131 rfl (rf_cat _) ?_
          obtain ⟨a102, rfl⟩ := aI_s hf
          replace hf := aI_e hf
          obtain ⟨w103, N104, f105, hh106, hi107, i108, ei108, hf⟩ := hf
          refine v_iald dX2_go_132 hh106 hi107 ?_
          rw [← ei108]
          refine v_iconst (v := 1) dX2_go_133 (by decide) ?_
          refine v_iadd dX2_go_134 ?_
          replace hf := sI_e hf
          obtain ⟨N109, f110, hh111, hi112, hf⟩ := hf
          refine v_iast dX2_go_135 hh111 hi112 ?_
          obtain ⟨h113, eh113⟩ : ∃ z, z = hs h96 a102 (true, .inl (0, N109, .inl (upd f110 (((50 : Int32) + ((6 : Int32) * i_1)) + (5 : Int32)).toNatClampNeg (i108 + (1 : Int32))))) := ⟨_, rfl⟩
          try rw [← eh113] at hf
          rw [← eh113]
          refine v_qload_n (r := (some a0)) (i := 0) dX2_go_136 rfl rfl ?_
          replace hf := gR_e hf
          obtain ⟨w115, fs116, r114, hh117, hk118, hf⟩ := hf
          refine v_getf (T := TX2) (ci := 2) 0 dX2_go_137 q2488 rfl in_X2 (Nat.le_of_ble_eq_true rfl) (Or.inl rfl) hh117 hk118 ?_
          refine v_bipush (v := 9) dX2_go_140 (by decide) ?_
          refine v_dup2 dX2_go_142 rfl (rf_cat _) ?_
          obtain ⟨a119, rfl⟩ := aI_s hf
          replace hf := aI_e hf
          obtain ⟨w120, N121, f122, hh123, hi124, i125, ei125, hf⟩ := hf
          refine v_iald dX2_go_143 hh123 hi124 ?_
          rw [← ei125]
          refine v_iload (i := 4) dX2_go_144 rfl ?_
          refine v_if_ge 153 dX2_go_146 (by decide) (fun c126 => ?_) (fun c126 => ?_)
          · replace hf := hf.1 c126
            refine v_iconst (v := 1) dX2_go_153 (by decide) ?_
            refine v_iadd dX2_go_154 ?_
            replace hf := sI_e hf
            obtain ⟨N127, f128, hh129, hi130, hf⟩ := hf
            refine v_iast dX2_go_155 hh129 hi130 ?_
            obtain ⟨h131, eh131⟩ : ∃ z, z = hs h113 a119 (true, .inl (0, N127, .inl (upd f128 ((9 : Int32)).toNatClampNeg (i125 + (1 : Int32))))) := ⟨_, rfl⟩
            try rw [← eh131] at hf
            rw [← eh131]
            refine v_qload_n (r := (some a0)) (i := 0) dX2_go_156 rfl rfl ?_
            replace hf := gR_e hf
            obtain ⟨w133, fs134, r132, hh135, hk136, hf⟩ := hf
            refine v_getf (T := TX2) (ci := 2) 0 dX2_go_157 q2488 rfl in_X2 (Nat.le_of_ble_eq_true rfl) (Or.inl rfl) hh135 hk136 ?_
            refine v_iconst (v := 2) dX2_go_160 (by decide) ?_
            obtain ⟨a137, rfl⟩ := aI_s hf
            replace hf := aI_e hf
            obtain ⟨w138, N139, f140, hh141, hi142, i143, ei143, hf⟩ := hf
            refine v_iald dX2_go_161 hh141 hi142 ?_
            rw [← ei143]
            exact v_iret dX2_go_162 rfl ⟨_, rfl, hf⟩
          · replace hf := hf.2 c126
            refine v_iconst (v := 0) dX2_go_149 (by decide) ?_
            refine v_goto 154 dX2_go_150 (by decide) ?_
            refine v_iadd dX2_go_154 ?_
            replace hf := sI_e hf
            obtain ⟨N144, f145, hh146, hi147, hf⟩ := hf
            refine v_iast dX2_go_155 hh146 hi147 ?_
            obtain ⟨h148, eh148⟩ : ∃ z, z = hs h113 a119 (true, .inl (0, N144, .inl (upd f145 ((9 : Int32)).toNatClampNeg (i125 + (0 : Int32))))) := ⟨_, rfl⟩
            try rw [← eh148] at hf
            rw [← eh148]
            refine v_qload_n (r := (some a0)) (i := 0) dX2_go_156 rfl rfl ?_
            replace hf := gR_e hf
            obtain ⟨w150, fs151, r149, hh152, hk153, hf⟩ := hf
            refine v_getf (T := TX2) (ci := 2) 0 dX2_go_157 q2488 rfl in_X2 (Nat.le_of_ble_eq_true rfl) (Or.inl rfl) hh152 hk153 ?_
            refine v_iconst (v := 2) dX2_go_160 (by decide) ?_
            obtain ⟨a154, rfl⟩ := aI_s hf
            replace hf := aI_e hf
            obtain ⟨w155, N156, f157, hh158, hi159, i160, ei160, hf⟩ := hf
            refine v_iald dX2_go_161 hh158 hi159 ?_
            rw [← ei160]
            exact v_iret dX2_go_162 rfl ⟨_, rfl, hf⟩
        · replace hf := hf.2 c53
          refine v_qload_n (r := (some a0)) (i := 0) dX2_go_79 rfl rfl ?_
          refine v_bipush (v := 6) dX2_go_80 (by decide) ?_
          refine v_iload_n (i := 3) dX2_go_82 rfl rfl ?_
          replace hf := rv_e hf
          obtain ⟨w161, fs162, hh163, hf⟩ := hf
          refine V.addK0 ?_
          refine V.addN0 ?_
          refine v_callV (mc := 0) (ms := 0) 2 dX2_go_83 (m_X2_refuses hG hf) rfl hh163 rfl (lw_V q2550 q2552 qs47 q98 q2553) rfl (by decide +kernel) (by decide) rfl (cat_len (Nat.le_of_ble_eq_true rfl)) (kk_I fun i165 h164 hg => ?_) (fun _ _ _ hx => hx.elim)
          replace hf := hg
          clear hg
          exact v_iret dX2_go_86 rfl ⟨_, rfl, hf⟩
      · replace hf := hf.2 c30
        refine v_qload_n (r := (some a0)) (i := 0) dX2_go_45 rfl rfl ?_
        refine v_iconst (v := 5) dX2_go_46 (by decide) ?_
        refine v_qload_n (r := (some a0)) (i := 0) dX2_go_47 rfl rfl ?_
        refine v_iload_n (i := 1) dX2_go_48 rfl rfl ?_
        refine v_iconst (v := 3) dX2_go_49 (by decide) ?_
        replace hf := rv_e hf
        obtain ⟨w166, fs167, hh168, hf⟩ := hf
        refine V.addK0 ?_
        refine V.addN0 ?_
        refine v_callV (mc := 0) (ms := 0) 2 dX2_go_50 (m_X2_of hG hf) rfl hh168 rfl (lw_V q2573 q2575 qs51 q98 q2576) rfl (by decide +kernel) (by decide) rfl (cat_len (Nat.le_of_ble_eq_true rfl)) (kk_I fun i170 h169 hg => ?_) (fun _ _ _ hx => hx.elim)
        replace hf := hg
        clear hg
        replace hf := rv_e hf
        obtain ⟨w171, fs172, hh173, hf⟩ := hf
        refine V.addK0 ?_
        refine V.addN0 ?_
        refine v_callV (mc := 0) (ms := 0) 2 dX2_go_53 (m_X2_refuses hG hf) rfl hh173 rfl (lw_V q2550 q2552 qs47 q98 q2553) rfl (by decide +kernel) (by decide) rfl (cat_len (Nat.le_of_ble_eq_true rfl)) (kk_I fun i175 h174 hg => ?_) (fun _ _ _ hx => hx.elim)
        replace hf := hg
        clear hg
        exact v_iret dX2_go_56 rfl ⟨_, rfl, hf⟩
    · replace hf := hf.2 c24
      refine v_qload_n (r := (some a0)) (i := 0) dX2_go_28 rfl rfl ?_
      refine v_iconst (v := 4) dX2_go_29 (by decide) ?_
      refine v_iload_n (i := 2) dX2_go_30 rfl rfl ?_
      replace hf := rv_e hf
      obtain ⟨w176, fs177, hh178, hf⟩ := hf
      refine V.addK0 ?_
      refine V.addN0 ?_
      refine v_callV (mc := 0) (ms := 0) 2 dX2_go_31 (m_X2_refuses hG hf) rfl hh178 rfl (lw_V q2550 q2552 qs47 q98 q2553) rfl (by decide +kernel) (by decide) rfl (cat_len (Nat.le_of_ble_eq_true rfl)) (kk_I fun i180 h179 hg => ?_) (fun _ _ _ hx => hx.elim)
      replace hf := hg
      clear hg
      exact v_iret dX2_go_34 rfl ⟨_, rfl, hf⟩
  · replace hf := hf.2 c6
    refine v_sipush (v := -1011) dX2_go_8 (by decide) ?_
    exact v_iret dX2_go_11 rfl ⟨_, rfl, hf⟩
abbrev Y_X2_take : Yt := (yX2_take, some (.int), 3, 86, [])
def f_X2_take (G : Gt) (h : Hp) (k n : Nat) (t_0 : Option Nat) (i_1 : Int32) (K : Int32 → Hp → Prop) : Prop :=
f_X2_isColour G h i_1 (fun i2 h1 =>
((¬ (i2 = 0) → gR h1 t_0 2 0 fun r4 =>
aI h1 r4 0 (0 : Int32) fun i15 =>
((¬ (i15 = 0) → gR h1 t_0 2 0 fun r17 =>
aI h1 r17 0 (2 : Int32) fun i28 =>
gR h1 t_0 2 0 fun r29 =>
aI h1 r29 0 ((((10 : Int32) + ((4 : Int32) * i28)) + (1 : Int32)) + i_1) fun i40 =>
((¬ (i40 = 0) → gR h1 t_0 2 0 fun r42 =>
aI h1 r42 0 ((4 : Int32) + i_1) fun i53 =>
((¬ (i53 = (9 : Int32)) → gR h1 t_0 2 0 fun r55 =>
rv h1 t_0 2 (dV G Y_X2_keeps cX2_keeps 3 [va_rf t_0, va_rf r55] h1 k n (fun h63 k66 n67 =>
gR h63 t_0 2 0 fun r68 =>
aI h63 r68 0 ((((10 : Int32) + ((4 : Int32) * i28)) + (1 : Int32)) + i_1) fun i79 =>
sI h63 r68 ((((10 : Int32) + ((4 : Int32) * i28)) + (1 : Int32)) + i_1) (i79 - (1 : Int32)) fun h84 =>
gR h84 t_0 2 0 fun r85 =>
aI h84 r85 0 ((4 : Int32) + i_1) fun i96 =>
sI h84 r85 ((4 : Int32) + i_1) (i96 + (1 : Int32)) fun h101 =>
gR h101 t_0 2 0 fun r102 =>
aI h101 r102 0 ((4 : Int32) + i_1) fun i113 =>
K i113 h101) xN)) ∧
(i53 = (9 : Int32) → rv h1 t_0 2 (f_X2_refuses G h1 t_0 (10 : Int32) (10 : Int32) (fun i118 h117 =>
K i118 h117))))) ∧
(i40 = 0 → gR h1 t_0 2 0 fun r119 =>
aI h1 r119 0 (2 : Int32) fun i130 =>
rv h1 t_0 2 (f_X2_refuses G h1 t_0 (7 : Int32) i130 (fun i135 h134 =>
K i135 h134))))) ∧
(i15 = 0 → rv h1 t_0 2 (f_X2_refuses G h1 t_0 (11 : Int32) (0 : Int32) (fun i140 h139 =>
K i140 h139))))) ∧
(i2 = 0 → K (-1012 : Int32) h1)))
theorem m_X2_take {G : Gt} {h : Hp} {mc ms : Nat} {a0 : Nat} {i_1 : Int32} {K : Int32 → Hp → Prop} (hG : Base G) (hA : 0 ≤ mc) (hB : 0 ≤ ms) (hf : f_X2_take G h (mc - 0) (ms - 0) (some a0) i_1 K) : MM G Y_X2_take cX2_take 3 mc ms [.ref a0, .int i_1] h (kI K) xN := by
  refine mm_of hG (by decide +kernel) rfl (ac_c rfl (ac_c rfl ac_nil)) (Nat.le_of_ble_eq_true rfl) (fun E _ _ => ?_)
  obtain ⟨k, hk9⟩ : ∃ z, z = mc - 0 := ⟨_, rfl⟩
  obtain ⟨n, hn9⟩ : ∃ z, z = ms - 0 := ⟨_, rfl⟩
  rw [← hk9, ← hn9] at hf
  refine V.weak (k' := k + 0) (n' := n + 0) ?_ (by omega) (by omega)
  show V G E Y_X2_take cX2_take 3 (QM G E (kI K) xN) h (k + 0) (n + 0) 0 [(0, .ref a0), (1, .int i_1)] []
  unfold f_X2_take at hf
  refine v_iload_n (i := 1) dX2_take_0 rfl rfl ?_
  refine V.addK0 ?_
  refine V.addN0 ?_
  refine v_callS (mc := 0) (ms := 0) 1 dX2_take_1 (m_X2_isColour hG hf) rfl (lw_S q2587 q2588 q98 q2589) rfl (by decide +kernel) (by decide) rfl (cat_len (Nat.le_of_ble_eq_true rfl)) (kk_I fun i2 h1 hg => ?_) (fun _ _ _ hx => hx.elim)
  replace hf := hg
  clear hg
  refine v_if_ne 11 dX2_take_4 (by decide) (fun c3 => ?_) (fun c3 => ?_)
  · replace hf := hf.1 c3
    refine v_qload_n (r := (some a0)) (i := 0) dX2_take_11 rfl rfl ?_
    replace hf := gR_e hf
    obtain ⟨w5, fs6, r4, hh7, hk8, hf⟩ := hf
    refine v_getf (T := TX2) (ci := 2) 0 dX2_take_12 q2488 rfl in_X2 (Nat.le_of_ble_eq_true rfl) (Or.inl rfl) hh7 hk8 ?_
    refine v_iconst (v := 0) dX2_take_15 (by decide) ?_
    obtain ⟨a9, rfl⟩ := aI_s hf
    replace hf := aI_e hf
    obtain ⟨w10, N11, f12, hh13, hi14, i15, ei15, hf⟩ := hf
    refine v_iald dX2_take_16 hh13 hi14 ?_
    rw [← ei15]
    refine v_if_ne 28 dX2_take_17 (by decide) (fun c16 => ?_) (fun c16 => ?_)
    · replace hf := hf.1 c16
      refine v_bipush (v := 10) dX2_take_28 (by decide) ?_
      refine v_iconst (v := 4) dX2_take_30 (by decide) ?_
      refine v_qload_n (r := (some a0)) (i := 0) dX2_take_31 rfl rfl ?_
      replace hf := gR_e hf
      obtain ⟨w18, fs19, r17, hh20, hk21, hf⟩ := hf
      refine v_getf (T := TX2) (ci := 2) 0 dX2_take_32 q2488 rfl in_X2 (Nat.le_of_ble_eq_true rfl) (Or.inl rfl) hh20 hk21 ?_
      refine v_iconst (v := 2) dX2_take_35 (by decide) ?_
      obtain ⟨a22, rfl⟩ := aI_s hf
      replace hf := aI_e hf
      obtain ⟨w23, N24, f25, hh26, hi27, i28, ei28, hf⟩ := hf
      refine v_iald dX2_take_36 hh26 hi27 ?_
      rw [← ei28]
      refine v_imul dX2_take_37 ?_
      refine v_iadd dX2_take_38 ?_
      refine v_iconst (v := 1) dX2_take_39 (by decide) ?_
      refine v_iadd dX2_take_40 ?_
      refine v_iload_n (i := 1) dX2_take_41 rfl rfl ?_
      refine v_iadd dX2_take_42 ?_
      refine v_istore_n (i := 2) (lv' := [(0, va_rf (some a0)), (1, .int i_1), (2, .int ((((10 : Int32) + ((4 : Int32) * i28)) + (1 : Int32)) + i_1))]) dX2_take_43 rfl (Nat.le_of_ble_eq_true rfl) rfl rfl ?_
      refine v_qload_n (r := (some a0)) (i := 0) dX2_take_44 rfl rfl ?_
      replace hf := gR_e hf
      obtain ⟨w30, fs31, r29, hh32, hk33, hf⟩ := hf
      refine v_getf (T := TX2) (ci := 2) 0 dX2_take_45 q2488 rfl in_X2 (Nat.le_of_ble_eq_true rfl) (Or.inl rfl) hh32 hk33 ?_
      refine v_iload_n (i := 2) dX2_take_48 rfl rfl ?_
      obtain ⟨a34, rfl⟩ := aI_s hf
      replace hf := aI_e hf
      obtain ⟨w35, N36, f37, hh38, hi39, i40, ei40, hf⟩ := hf
      refine v_iald dX2_take_49 hh38 hi39 ?_
      rw [← ei40]
      refine v_if_ne 66 dX2_take_50 (by decide) (fun c41 => ?_) (fun c41 => ?_)
      · replace hf := hf.1 c41
        refine v_qload_n (r := (some a0)) (i := 0) dX2_take_66 rfl rfl ?_
        replace hf := gR_e hf
        obtain ⟨w43, fs44, r42, hh45, hk46, hf⟩ := hf
        refine v_getf (T := TX2) (ci := 2) 0 dX2_take_67 q2488 rfl in_X2 (Nat.le_of_ble_eq_true rfl) (Or.inl rfl) hh45 hk46 ?_
        refine v_iconst (v := 4) dX2_take_70 (by decide) ?_
        refine v_iload_n (i := 1) dX2_take_71 rfl rfl ?_
        refine v_iadd dX2_take_72 ?_
        obtain ⟨a47, rfl⟩ := aI_s hf
        replace hf := aI_e hf
        obtain ⟨w48, N49, f50, hh51, hi52, i53, ei53, hf⟩ := hf
        refine v_iald dX2_take_73 hh51 hi52 ?_
        rw [← ei53]
        refine v_bipush (v := 9) dX2_take_74 (by decide) ?_
        refine v_icmp_ne 88 dX2_take_76 (by decide) (fun c54 => ?_) (fun c54 => ?_)
        · replace hf := hf.1 c54
          refine v_qload_n (r := (some a0)) (i := 0) dX2_take_88 rfl rfl ?_
          refine v_qload_n (r := (some a0)) (i := 0) dX2_take_89 rfl rfl ?_
          replace hf := gR_e hf
          obtain ⟨w56, fs57, r55, hh58, hk59, hf⟩ := hf
          refine v_getf (T := TX2) (ci := 2) 0 dX2_take_90 q2488 rfl in_X2 (Nat.le_of_ble_eq_true rfl) (Or.inl rfl) hh58 hk59 ?_
          replace hf := rv_e hf
          obtain ⟨w60, fs61, hh62, hf⟩ := hf
          obtain ⟨mc64, ms65, hkmc64, hnms65, hM⟩ := hf
          refine V.weak (k' := ((k - mc64) + 0) + mc64) (n' := ((n - ms65) + 0) + ms65) ?_ (by omega) (by omega)
          refine v_callV 1 dX2_take_93 hM rfl hh62 rfl (lw_V q2554 q2556 qs48 q98 q2557) rfl (by decide +kernel) (by decide) rfl (cat_len (Nat.le_of_ble_eq_true rfl)) (kk_V fun h63 hg => ?_) (fun _ _ _ hx => hx.elim)
          have hf := hg
          clear hg
          refine v_qload_n (r := (some a0)) (i := 0) dX2_take_96 rfl rfl ?_
          replace hf := gR_e hf
          obtain ⟨w69, fs70, r68, hh71, hk72, hf⟩ := hf
          refine v_getf (T := TX2) (ci := 2) 0 dX2_take_97 q2488 rfl in_X2 (Nat.le_of_ble_eq_true rfl) (Or.inl rfl) hh71 hk72 ?_
          refine v_iload_n (i := 2) dX2_take_100 rfl rfl ?_
          refine v_dup2 dX2_take_101 rfl (rf_cat _) ?_
          obtain ⟨a73, rfl⟩ := aI_s hf
          replace hf := aI_e hf
          obtain ⟨w74, N75, f76, hh77, hi78, i79, ei79, hf⟩ := hf
          refine v_iald dX2_take_102 hh77 hi78 ?_
          rw [← ei79]
          refine v_iconst (v := 1) dX2_take_103 (by decide) ?_
          refine v_isub dX2_take_104 ?_
          replace hf := sI_e hf
          obtain ⟨N80, f81, hh82, hi83, hf⟩ := hf
          refine v_iast dX2_take_105 hh82 hi83 ?_
          obtain ⟨h84, eh84⟩ : ∃ z, z = hs h63 a73 (true, .inl (0, N80, .inl (upd f81 ((((10 : Int32) + ((4 : Int32) * i28)) + (1 : Int32)) + i_1).toNatClampNeg (i79 - (1 : Int32))))) := ⟨_, rfl⟩
          try rw [← eh84] at hf
          rw [← eh84]
          refine v_qload_n (r := (some a0)) (i := 0) dX2_take_106 rfl rfl ?_
          replace hf := gR_e hf
          obtain ⟨w86, fs87, r85, hh88, hk89, hf⟩ := hf
          refine v_getf (T := TX2) (ci := 2) 0 dX2_take_107 q2488 rfl in_X2 (Nat.le_of_ble_eq_true rfl) (Or.inl rfl) hh88 hk89 ?_
          refine v_iconst (v := 4) dX2_take_110 (by decide) ?_
          refine v_iload_n (i := 1) dX2_take_111 rfl rfl ?_
          refine v_iadd dX2_take_112 ?_
          refine v_dup2 dX2_take_113 rfl (rf_cat _) ?_
          obtain ⟨a90, rfl⟩ := aI_s hf
          replace hf := aI_e hf
          obtain ⟨w91, N92, f93, hh94, hi95, i96, ei96, hf⟩ := hf
          refine v_iald dX2_take_114 hh94 hi95 ?_
          rw [← ei96]
          refine v_iconst (v := 1) dX2_take_115 (by decide) ?_
          refine v_iadd dX2_take_116 ?_
          replace hf := sI_e hf
          obtain ⟨N97, f98, hh99, hi100, hf⟩ := hf
          refine v_iast dX2_take_117 hh99 hi100 ?_
          obtain ⟨h101, eh101⟩ : ∃ z, z = hs h84 a90 (true, .inl (0, N97, .inl (upd f98 ((4 : Int32) + i_1).toNatClampNeg (i96 + (1 : Int32))))) := ⟨_, rfl⟩
          try rw [← eh101] at hf
          rw [← eh101]
          refine v_qload_n (r := (some a0)) (i := 0) dX2_take_118 rfl rfl ?_
          replace hf := gR_e hf
          obtain ⟨w103, fs104, r102, hh105, hk106, hf⟩ := hf
          refine v_getf (T := TX2) (ci := 2) 0 dX2_take_119 q2488 rfl in_X2 (Nat.le_of_ble_eq_true rfl) (Or.inl rfl) hh105 hk106 ?_
          refine v_iconst (v := 4) dX2_take_122 (by decide) ?_
          refine v_iload_n (i := 1) dX2_take_123 rfl rfl ?_
          refine v_iadd dX2_take_124 ?_
          obtain ⟨a107, rfl⟩ := aI_s hf
          replace hf := aI_e hf
          obtain ⟨w108, N109, f110, hh111, hi112, i113, ei113, hf⟩ := hf
          refine v_iald dX2_take_125 hh111 hi112 ?_
          rw [← ei113]
          exact v_iret dX2_take_126 rfl ⟨_, rfl, hf⟩
        · replace hf := hf.2 c54
          refine v_qload_n (r := (some a0)) (i := 0) dX2_take_79 rfl rfl ?_
          refine v_bipush (v := 10) dX2_take_80 (by decide) ?_
          refine v_bipush (v := 10) dX2_take_82 (by decide) ?_
          replace hf := rv_e hf
          obtain ⟨w114, fs115, hh116, hf⟩ := hf
          refine V.addK0 ?_
          refine V.addN0 ?_
          refine v_callV (mc := 0) (ms := 0) 2 dX2_take_84 (m_X2_refuses hG hf) rfl hh116 rfl (lw_V q2550 q2552 qs47 q98 q2553) rfl (by decide +kernel) (by decide) rfl (cat_len (Nat.le_of_ble_eq_true rfl)) (kk_I fun i118 h117 hg => ?_) (fun _ _ _ hx => hx.elim)
          replace hf := hg
          clear hg
          exact v_iret dX2_take_87 rfl ⟨_, rfl, hf⟩
      · replace hf := hf.2 c41
        refine v_qload_n (r := (some a0)) (i := 0) dX2_take_53 rfl rfl ?_
        refine v_bipush (v := 7) dX2_take_54 (by decide) ?_
        refine v_qload_n (r := (some a0)) (i := 0) dX2_take_56 rfl rfl ?_
        replace hf := gR_e hf
        obtain ⟨w120, fs121, r119, hh122, hk123, hf⟩ := hf
        refine v_getf (T := TX2) (ci := 2) 0 dX2_take_57 q2488 rfl in_X2 (Nat.le_of_ble_eq_true rfl) (Or.inl rfl) hh122 hk123 ?_
        refine v_iconst (v := 2) dX2_take_60 (by decide) ?_
        obtain ⟨a124, rfl⟩ := aI_s hf
        replace hf := aI_e hf
        obtain ⟨w125, N126, f127, hh128, hi129, i130, ei130, hf⟩ := hf
        refine v_iald dX2_take_61 hh128 hi129 ?_
        rw [← ei130]
        replace hf := rv_e hf
        obtain ⟨w131, fs132, hh133, hf⟩ := hf
        refine V.addK0 ?_
        refine V.addN0 ?_
        refine v_callV (mc := 0) (ms := 0) 2 dX2_take_62 (m_X2_refuses hG hf) rfl hh133 rfl (lw_V q2550 q2552 qs47 q98 q2553) rfl (by decide +kernel) (by decide) rfl (cat_len (Nat.le_of_ble_eq_true rfl)) (kk_I fun i135 h134 hg => ?_) (fun _ _ _ hx => hx.elim)
        replace hf := hg
        clear hg
        exact v_iret dX2_take_65 rfl ⟨_, rfl, hf⟩
    · replace hf := hf.2 c16
      refine v_qload_n (r := (some a0)) (i := 0) dX2_take_20 rfl rfl ?_
      refine v_bipush (v := 11) dX2_take_21 (by decide) ?_
      refine v_iconst (v := 0) dX2_take_23 (by decide) ?_
      replace hf := rv_e hf
      obtain ⟨w136, fs137, hh138, hf⟩ := hf
      refine V.addK0 ?_
      refine V.addN0 ?_
      refine v_callV (mc := 0) (ms := 0) 2 dX2_take_24 (m_X2_refuses hG hf) rfl hh138 rfl (lw_V q2550 q2552 qs47 q98 q2553) rfl (by decide +kernel) (by decide) rfl (cat_len (Nat.le_of_ble_eq_true rfl)) (kk_I fun i140 h139 hg => ?_) (fun _ _ _ hx => hx.elim)
      replace hf := hg
      clear hg
      exact v_iret dX2_take_27 rfl ⟨_, rfl, hf⟩
  · replace hf := hf.2 c3
    refine v_sipush (v := -1012) dX2_take_7 (by decide) ?_
    exact v_iret dX2_take_10 rfl ⟨_, rfl, hf⟩
abbrev Y_X2_open : Yt := (yX2_open, some (.int), 3, 86, [])
def f_X2_open (G : Gt) (h : Hp) (k n : Nat) (t_0 : Option Nat) (i_1 : Int32) (K : Int32 → Hp → Prop) : Prop :=
rv h t_0 2 (f_X2_isDoor G h t_0 i_1 (fun i5 h4 =>
((¬ (i5 = 0) → gR h4 t_0 2 0 fun r7 =>
aI h4 r7 0 (2 : Int32) fun i18 =>
rv h4 t_0 2 (f_X2_isAt G h4 t_0 i18 i_1 (fun i23 h22 =>
((¬ (i23 = 0) → rv h22 t_0 2 (f_X2_of G h22 t_0 i_1 (4 : Int32) (fun i29 h28 =>
((¬ (i29 = 0) → rv h28 t_0 2 (f_X2_of G h28 t_0 i_1 (3 : Int32) (fun i35 h34 =>
gR h34 t_0 2 0 fun r36 =>
aI h34 r36 0 ((4 : Int32) + i35) fun i47 =>
(((2 : Int32) ≤ i47 → gR h34 t_0 2 0 fun r49 =>
rv h34 t_0 2 (dV G Y_X2_keeps cX2_keeps 3 [va_rf t_0, va_rf r49] h34 k n (fun h57 k60 n61 =>
gR h57 t_0 2 0 fun r62 =>
aI h57 r62 0 ((4 : Int32) + i35) fun i73 =>
sI h57 r62 ((4 : Int32) + i35) (i73 - (2 : Int32)) fun h78 =>
gR h78 t_0 2 0 fun r79 =>
aI h78 r79 0 (8 : Int32) fun i90 =>
sI h78 r79 (8 : Int32) (i90 + (2 : Int32)) fun h95 =>
gR h95 t_0 2 0 fun r96 =>
sI h95 r96 (((50 : Int32) + ((6 : Int32) * i_1)) + (4 : Int32)) (0 : Int32) fun h106 =>
gR h106 t_0 2 0 fun r107 =>
aI h106 r107 0 ((4 : Int32) + i35) fun i118 =>
K i118 h106) xN)) ∧
(¬ ((2 : Int32) ≤ i47) → gR h34 t_0 2 0 fun r119 =>
aI h34 r119 0 ((4 : Int32) + i35) fun i130 =>
rv h34 t_0 2 (f_X2_refuses G h34 t_0 (8 : Int32) i130 (fun i135 h134 =>
K i135 h134))))))) ∧
(i29 = 0 → rv h28 t_0 2 (f_X2_refuses G h28 t_0 (9 : Int32) i_1 (fun i140 h139 =>
K i140 h139))))))) ∧
(i23 = 0 → gR h22 t_0 2 0 fun r141 =>
aI h22 r141 0 (2 : Int32) fun i152 =>
rv h22 t_0 2 (f_X2_refuses G h22 t_0 (4 : Int32) i152 (fun i157 h156 =>
K i157 h156))))))) ∧
(i5 = 0 → K (-1011 : Int32) h4))))
theorem m_X2_open {G : Gt} {h : Hp} {mc ms : Nat} {a0 : Nat} {i_1 : Int32} {K : Int32 → Hp → Prop} (hG : Base G) (hA : 0 ≤ mc) (hB : 0 ≤ ms) (hf : f_X2_open G h (mc - 0) (ms - 0) (some a0) i_1 K) : MM G Y_X2_open cX2_open 3 mc ms [.ref a0, .int i_1] h (kI K) xN := by
  refine mm_of hG (by decide +kernel) rfl (ac_c rfl (ac_c rfl ac_nil)) (Nat.le_of_ble_eq_true rfl) (fun E _ _ => ?_)
  obtain ⟨k, hk9⟩ : ∃ z, z = mc - 0 := ⟨_, rfl⟩
  obtain ⟨n, hn9⟩ : ∃ z, z = ms - 0 := ⟨_, rfl⟩
  rw [← hk9, ← hn9] at hf
  refine V.weak (k' := k + 0) (n' := n + 0) ?_ (by omega) (by omega)
  show V G E Y_X2_open cX2_open 3 (QM G E (kI K) xN) h (k + 0) (n + 0) 0 [(0, .ref a0), (1, .int i_1)] []
  unfold f_X2_open at hf
  refine v_qload_n (r := (some a0)) (i := 0) dX2_open_0 rfl rfl ?_
  refine v_iload_n (i := 1) dX2_open_1 rfl rfl ?_
  replace hf := rv_e hf
  obtain ⟨w1, fs2, hh3, hf⟩ := hf
  refine V.addK0 ?_
  refine V.addN0 ?_
  refine v_callV (mc := 0) (ms := 0) 1 dX2_open_2 (m_X2_isDoor hG hf) rfl hh3 rfl (lw_V q2602 q2604 qs53 q98 q2605) rfl (by decide +kernel) (by decide) rfl (cat_len (Nat.le_of_ble_eq_true rfl)) (kk_I fun i5 h4 hg => ?_) (fun _ _ _ hx => hx.elim)
  replace hf := hg
  clear hg
  refine v_if_ne 12 dX2_open_5 (by decide) (fun c6 => ?_) (fun c6 => ?_)
  · replace hf := hf.1 c6
    refine v_qload_n (r := (some a0)) (i := 0) dX2_open_12 rfl rfl ?_
    refine v_qload_n (r := (some a0)) (i := 0) dX2_open_13 rfl rfl ?_
    replace hf := gR_e hf
    obtain ⟨w8, fs9, r7, hh10, hk11, hf⟩ := hf
    refine v_getf (T := TX2) (ci := 2) 0 dX2_open_14 q2488 rfl in_X2 (Nat.le_of_ble_eq_true rfl) (Or.inl rfl) hh10 hk11 ?_
    refine v_iconst (v := 2) dX2_open_17 (by decide) ?_
    obtain ⟨a12, rfl⟩ := aI_s hf
    replace hf := aI_e hf
    obtain ⟨w13, N14, f15, hh16, hi17, i18, ei18, hf⟩ := hf
    refine v_iald dX2_open_18 hh16 hi17 ?_
    rw [← ei18]
    refine v_iload_n (i := 1) dX2_open_19 rfl rfl ?_
    replace hf := rv_e hf
    obtain ⟨w19, fs20, hh21, hf⟩ := hf
    refine V.addK0 ?_
    refine V.addN0 ?_
    refine v_callV (mc := 0) (ms := 0) 2 dX2_open_20 (m_X2_isAt hG hf) rfl hh21 rfl (lw_V q2606 q2608 qs54 q98 q2609) rfl (by decide +kernel) (by decide) rfl (cat_len (Nat.le_of_ble_eq_true rfl)) (kk_I fun i23 h22 hg => ?_) (fun _ _ _ hx => hx.elim)
    replace hf := hg
    clear hg
    refine v_if_ne 38 dX2_open_23 (by decide) (fun c24 => ?_) (fun c24 => ?_)
    · replace hf := hf.1 c24
      refine v_qload_n (r := (some a0)) (i := 0) dX2_open_38 rfl rfl ?_
      refine v_iload_n (i := 1) dX2_open_39 rfl rfl ?_
      refine v_iconst (v := 4) dX2_open_40 (by decide) ?_
      replace hf := rv_e hf
      obtain ⟨w25, fs26, hh27, hf⟩ := hf
      refine V.addK0 ?_
      refine V.addN0 ?_
      refine v_callV (mc := 0) (ms := 0) 2 dX2_open_41 (m_X2_of hG hf) rfl hh27 rfl (lw_V q2573 q2575 qs51 q98 q2576) rfl (by decide +kernel) (by decide) rfl (cat_len (Nat.le_of_ble_eq_true rfl)) (kk_I fun i29 h28 hg => ?_) (fun _ _ _ hx => hx.elim)
      replace hf := hg
      clear hg
      refine v_if_ne 55 dX2_open_44 (by decide) (fun c30 => ?_) (fun c30 => ?_)
      · replace hf := hf.1 c30
        refine v_qload_n (r := (some a0)) (i := 0) dX2_open_55 rfl rfl ?_
        refine v_iload_n (i := 1) dX2_open_56 rfl rfl ?_
        refine v_iconst (v := 3) dX2_open_57 (by decide) ?_
        replace hf := rv_e hf
        obtain ⟨w31, fs32, hh33, hf⟩ := hf
        refine V.addK0 ?_
        refine V.addN0 ?_
        refine v_callV (mc := 0) (ms := 0) 2 dX2_open_58 (m_X2_of hG hf) rfl hh33 rfl (lw_V q2573 q2575 qs51 q98 q2576) rfl (by decide +kernel) (by decide) rfl (cat_len (Nat.le_of_ble_eq_true rfl)) (kk_I fun i35 h34 hg => ?_) (fun _ _ _ hx => hx.elim)
        replace hf := hg
        clear hg
        refine v_istore_n (i := 2) (lv' := [(0, va_rf (some a0)), (1, .int i_1), (2, .int i35)]) dX2_open_61 rfl (Nat.le_of_ble_eq_true rfl) rfl rfl ?_
        refine v_qload_n (r := (some a0)) (i := 0) dX2_open_62 rfl rfl ?_
        replace hf := gR_e hf
        obtain ⟨w37, fs38, r36, hh39, hk40, hf⟩ := hf
        refine v_getf (T := TX2) (ci := 2) 0 dX2_open_63 q2488 rfl in_X2 (Nat.le_of_ble_eq_true rfl) (Or.inl rfl) hh39 hk40 ?_
        refine v_iconst (v := 4) dX2_open_66 (by decide) ?_
        refine v_iload_n (i := 2) dX2_open_67 rfl rfl ?_
        refine v_iadd dX2_open_68 ?_
        obtain ⟨a41, rfl⟩ := aI_s hf
        replace hf := aI_e hf
        obtain ⟨w42, N43, f44, hh45, hi46, i47, ei47, hf⟩ := hf
        refine v_iald dX2_open_69 hh45 hi46 ?_
        rw [← ei47]
        refine v_iconst (v := 2) dX2_open_70 (by decide) ?_
        refine v_icmp_ge 89 dX2_open_71 (by decide) (fun c48 => ?_) (fun c48 => ?_)
        · replace hf := hf.1 c48
          refine v_qload_n (r := (some a0)) (i := 0) dX2_open_89 rfl rfl ?_
          refine v_qload_n (r := (some a0)) (i := 0) dX2_open_90 rfl rfl ?_
          replace hf := gR_e hf
          obtain ⟨w50, fs51, r49, hh52, hk53, hf⟩ := hf
          refine v_getf (T := TX2) (ci := 2) 0 dX2_open_91 q2488 rfl in_X2 (Nat.le_of_ble_eq_true rfl) (Or.inl rfl) hh52 hk53 ?_
          replace hf := rv_e hf
          obtain ⟨w54, fs55, hh56, hf⟩ := hf
          obtain ⟨mc58, ms59, hkmc58, hnms59, hM⟩ := hf
          refine V.weak (k' := ((k - mc58) + 0) + mc58) (n' := ((n - ms59) + 0) + ms59) ?_ (by omega) (by omega)
          refine v_callV 1 dX2_open_94 hM rfl hh56 rfl (lw_V q2554 q2556 qs48 q98 q2557) rfl (by decide +kernel) (by decide) rfl (cat_len (Nat.le_of_ble_eq_true rfl)) (kk_V fun h57 hg => ?_) (fun _ _ _ hx => hx.elim)
          have hf := hg
          clear hg
          refine v_qload_n (r := (some a0)) (i := 0) dX2_open_97 rfl rfl ?_
          replace hf := gR_e hf
          obtain ⟨w63, fs64, r62, hh65, hk66, hf⟩ := hf
          refine v_getf (T := TX2) (ci := 2) 0 dX2_open_98 q2488 rfl in_X2 (Nat.le_of_ble_eq_true rfl) (Or.inl rfl) hh65 hk66 ?_
          refine v_iconst (v := 4) dX2_open_101 (by decide) ?_
          refine v_iload_n (i := 2) dX2_open_102 rfl rfl ?_
          refine v_iadd dX2_open_103 ?_
          refine v_dup2 dX2_open_104 rfl (rf_cat _) ?_
          obtain ⟨a67, rfl⟩ := aI_s hf
          replace hf := aI_e hf
          obtain ⟨w68, N69, f70, hh71, hi72, i73, ei73, hf⟩ := hf
          refine v_iald dX2_open_105 hh71 hi72 ?_
          rw [← ei73]
          refine v_iconst (v := 2) dX2_open_106 (by decide) ?_
          refine v_isub dX2_open_107 ?_
          replace hf := sI_e hf
          obtain ⟨N74, f75, hh76, hi77, hf⟩ := hf
          refine v_iast dX2_open_108 hh76 hi77 ?_
          obtain ⟨h78, eh78⟩ : ∃ z, z = hs h57 a67 (true, .inl (0, N74, .inl (upd f75 ((4 : Int32) + i35).toNatClampNeg (i73 - (2 : Int32))))) := ⟨_, rfl⟩
          try rw [← eh78] at hf
          rw [← eh78]
          refine v_qload_n (r := (some a0)) (i := 0) dX2_open_109 rfl rfl ?_
          replace hf := gR_e hf
          obtain ⟨w80, fs81, r79, hh82, hk83, hf⟩ := hf
          refine v_getf (T := TX2) (ci := 2) 0 dX2_open_110 q2488 rfl in_X2 (Nat.le_of_ble_eq_true rfl) (Or.inl rfl) hh82 hk83 ?_
          refine v_bipush (v := 8) dX2_open_113 (by decide) ?_
          refine v_dup2 dX2_open_115 rfl (rf_cat _) ?_
          obtain ⟨a84, rfl⟩ := aI_s hf
          replace hf := aI_e hf
          obtain ⟨w85, N86, f87, hh88, hi89, i90, ei90, hf⟩ := hf
          refine v_iald dX2_open_116 hh88 hi89 ?_
          rw [← ei90]
          refine v_iconst (v := 2) dX2_open_117 (by decide) ?_
          refine v_iadd dX2_open_118 ?_
          replace hf := sI_e hf
          obtain ⟨N91, f92, hh93, hi94, hf⟩ := hf
          refine v_iast dX2_open_119 hh93 hi94 ?_
          obtain ⟨h95, eh95⟩ : ∃ z, z = hs h78 a84 (true, .inl (0, N91, .inl (upd f92 ((8 : Int32)).toNatClampNeg (i90 + (2 : Int32))))) := ⟨_, rfl⟩
          try rw [← eh95] at hf
          rw [← eh95]
          refine v_qload_n (r := (some a0)) (i := 0) dX2_open_120 rfl rfl ?_
          replace hf := gR_e hf
          obtain ⟨w97, fs98, r96, hh99, hk100, hf⟩ := hf
          refine v_getf (T := TX2) (ci := 2) 0 dX2_open_121 q2488 rfl in_X2 (Nat.le_of_ble_eq_true rfl) (Or.inl rfl) hh99 hk100 ?_
          refine v_bipush (v := 50) dX2_open_124 (by decide) ?_
          refine v_bipush (v := 6) dX2_open_126 (by decide) ?_
          refine v_iload_n (i := 1) dX2_open_128 rfl rfl ?_
          refine v_imul dX2_open_129 ?_
          refine v_iadd dX2_open_130 ?_
          refine v_iconst (v := 4) dX2_open_131 (by decide) ?_
          refine v_iadd dX2_open_132 ?_
          refine v_iconst (v := 0) dX2_open_133 (by decide) ?_
          obtain ⟨a101, rfl⟩ := sI_s hf
          replace hf := sI_e hf
          obtain ⟨N102, f103, hh104, hi105, hf⟩ := hf
          refine v_iast dX2_open_134 hh104 hi105 ?_
          obtain ⟨h106, eh106⟩ : ∃ z, z = hs h95 a101 (true, .inl (0, N102, .inl (upd f103 (((50 : Int32) + ((6 : Int32) * i_1)) + (4 : Int32)).toNatClampNeg ((0 : Int32))))) := ⟨_, rfl⟩
          try rw [← eh106] at hf
          rw [← eh106]
          refine v_qload_n (r := (some a0)) (i := 0) dX2_open_135 rfl rfl ?_
          replace hf := gR_e hf
          obtain ⟨w108, fs109, r107, hh110, hk111, hf⟩ := hf
          refine v_getf (T := TX2) (ci := 2) 0 dX2_open_136 q2488 rfl in_X2 (Nat.le_of_ble_eq_true rfl) (Or.inl rfl) hh110 hk111 ?_
          refine v_iconst (v := 4) dX2_open_139 (by decide) ?_
          refine v_iload_n (i := 2) dX2_open_140 rfl rfl ?_
          refine v_iadd dX2_open_141 ?_
          obtain ⟨a112, rfl⟩ := aI_s hf
          replace hf := aI_e hf
          obtain ⟨w113, N114, f115, hh116, hi117, i118, ei118, hf⟩ := hf
          refine v_iald dX2_open_142 hh116 hi117 ?_
          rw [← ei118]
          exact v_iret dX2_open_143 rfl ⟨_, rfl, hf⟩
        · replace hf := hf.2 c48
          refine v_qload_n (r := (some a0)) (i := 0) dX2_open_74 rfl rfl ?_
          refine v_bipush (v := 8) dX2_open_75 (by decide) ?_
          refine v_qload_n (r := (some a0)) (i := 0) dX2_open_77 rfl rfl ?_
          replace hf := gR_e hf
          obtain ⟨w120, fs121, r119, hh122, hk123, hf⟩ := hf
          refine v_getf (T := TX2) (ci := 2) 0 dX2_open_78 q2488 rfl in_X2 (Nat.le_of_ble_eq_true rfl) (Or.inl rfl) hh122 hk123 ?_
          refine v_iconst (v := 4) dX2_open_81 (by decide) ?_
          refine v_iload_n (i := 2) dX2_open_82 rfl rfl ?_
          refine v_iadd dX2_open_83 ?_
          obtain ⟨a124, rfl⟩ := aI_s hf
          replace hf := aI_e hf
          obtain ⟨w125, N126, f127, hh128, hi129, i130, ei130, hf⟩ := hf
          refine v_iald dX2_open_84 hh128 hi129 ?_
          rw [← ei130]
          replace hf := rv_e hf
          obtain ⟨w131, fs132, hh133, hf⟩ := hf
          refine V.addK0 ?_
          refine V.addN0 ?_
          refine v_callV (mc := 0) (ms := 0) 2 dX2_open_85 (m_X2_refuses hG hf) rfl hh133 rfl (lw_V q2550 q2552 qs47 q98 q2553) rfl (by decide +kernel) (by decide) rfl (cat_len (Nat.le_of_ble_eq_true rfl)) (kk_I fun i135 h134 hg => ?_) (fun _ _ _ hx => hx.elim)
          replace hf := hg
          clear hg
          exact v_iret dX2_open_88 rfl ⟨_, rfl, hf⟩
      · replace hf := hf.2 c30
        refine v_qload_n (r := (some a0)) (i := 0) dX2_open_47 rfl rfl ?_
        refine v_bipush (v := 9) dX2_open_48 (by decide) ?_
        refine v_iload_n (i := 1) dX2_open_50 rfl rfl ?_
        replace hf := rv_e hf
        obtain ⟨w136, fs137, hh138, hf⟩ := hf
        refine V.addK0 ?_
        refine V.addN0 ?_
        refine v_callV (mc := 0) (ms := 0) 2 dX2_open_51 (m_X2_refuses hG hf) rfl hh138 rfl (lw_V q2550 q2552 qs47 q98 q2553) rfl (by decide +kernel) (by decide) rfl (cat_len (Nat.le_of_ble_eq_true rfl)) (kk_I fun i140 h139 hg => ?_) (fun _ _ _ hx => hx.elim)
        replace hf := hg
        clear hg
        exact v_iret dX2_open_54 rfl ⟨_, rfl, hf⟩
    · replace hf := hf.2 c24
      refine v_qload_n (r := (some a0)) (i := 0) dX2_open_26 rfl rfl ?_
      refine v_iconst (v := 4) dX2_open_27 (by decide) ?_
      refine v_qload_n (r := (some a0)) (i := 0) dX2_open_28 rfl rfl ?_
      replace hf := gR_e hf
      obtain ⟨w142, fs143, r141, hh144, hk145, hf⟩ := hf
      refine v_getf (T := TX2) (ci := 2) 0 dX2_open_29 q2488 rfl in_X2 (Nat.le_of_ble_eq_true rfl) (Or.inl rfl) hh144 hk145 ?_
      refine v_iconst (v := 2) dX2_open_32 (by decide) ?_
      obtain ⟨a146, rfl⟩ := aI_s hf
      replace hf := aI_e hf
      obtain ⟨w147, N148, f149, hh150, hi151, i152, ei152, hf⟩ := hf
      refine v_iald dX2_open_33 hh150 hi151 ?_
      rw [← ei152]
      replace hf := rv_e hf
      obtain ⟨w153, fs154, hh155, hf⟩ := hf
      refine V.addK0 ?_
      refine V.addN0 ?_
      refine v_callV (mc := 0) (ms := 0) 2 dX2_open_34 (m_X2_refuses hG hf) rfl hh155 rfl (lw_V q2550 q2552 qs47 q98 q2553) rfl (by decide +kernel) (by decide) rfl (cat_len (Nat.le_of_ble_eq_true rfl)) (kk_I fun i157 h156 hg => ?_) (fun _ _ _ hx => hx.elim)
      replace hf := hg
      clear hg
      exact v_iret dX2_open_37 rfl ⟨_, rfl, hf⟩
  · replace hf := hf.2 c6
    refine v_sipush (v := -1011) dX2_open_8 (by decide) ?_
    exact v_iret dX2_open_11 rfl ⟨_, rfl, hf⟩
abbrev Y_X2_orderHere : Yt := (yX2_orderHere, some (.boolean), 6, 147, [])
def f_X2_orderHere (G : Gt) (h : Hp) (k n : Nat) (t_0 : Option Nat) (K : Int32 → Hp → Prop) : Prop :=
gI h t_0 2 17 fun i1 =>
rv h t_0 2 (f_X2_skips G h t_0 (103 : Int32) (fun i10 h9 =>
((i10 = 0 → rv h9 t_0 2 (f_X2_skips G h9 t_0 (119 : Int32) (fun i16 h15 =>
((i16 = 0 → rv h15 t_0 2 (f_X2_skips G h15 t_0 (116 : Int32) (fun i22 h21 =>
((i22 = 0 → rv h21 t_0 2 (f_X2_skips G h21 t_0 (114 : Int32) (fun i28 h27 =>
((i28 = 0 → rv h27 t_0 2 (f_X2_skips G h27 t_0 (107 : Int32) (fun i34 h33 =>
((i34 = 0 → rv h33 t_0 2 (f_X2_skips G h33 t_0 (100 : Int32) (fun i40 h39 =>
((i40 = 0 → rv h39 t_0 2 (f_X2_skips G h39 t_0 (111 : Int32) (fun i46 h45 =>
((¬ (i46 = 0) → rv h45 t_0 2 (f_X2_skips G h45 t_0 (112 : Int32) (fun i52 h51 =>
((i52 = 0 → rv h51 t_0 2 (f_X2_hasOrder G h51 t_0 (4 : Int32) (fun i58 h57 =>
((i58 = 0 → K (0 : Int32) h57) ∧
(¬ (i58 = 0) → rv h57 t_0 2 (dI G Y_X2_isWord cX2_isWord 3 [va_rf t_0, .ref (g_k G 18)] h57 k n (fun i64 h63 k67 n68 =>
((i64 = 0 → K (0 : Int32) h63) ∧
(¬ (i64 = 0) → rv h63 t_0 2 (dI G Y_X2_figures cX2_figures 4 [va_rf t_0, .int (((6 : Int32) * i1) + (1 : Int32)), .int (1 : Int32)] h63 k67 n68 (fun i74 h73 k77 n78 =>
((i74 = 0 → K (0 : Int32) h73) ∧
(¬ (i74 = 0) → rv h73 t_0 2 (f_X2_skips G h73 t_0 (32 : Int32) (fun i84 h83 =>
((i84 = 0 → K (0 : Int32) h83) ∧
(¬ (i84 = 0) → rv h83 t_0 2 (dI G Y_X2_figures cX2_figures 4 [va_rf t_0, .int (((6 : Int32) * i1) + (2 : Int32)), .int (2 : Int32)] h83 k77 n78 (fun i90 h89 k93 n94 =>
((i90 = 0 → K (0 : Int32) h89) ∧
(¬ (i90 = 0) → K (1 : Int32) h89))) xN)))))))) xN)))) xN)))))) ∧
(¬ (i52 = 0) → rv h51 t_0 2 (f_X2_hasOrder G h51 t_0 (3 : Int32) (fun i100 h99 =>
((i100 = 0 → K (0 : Int32) h99) ∧
(¬ (i100 = 0) → rv h99 t_0 2 (dI G Y_X2_isWord cX2_isWord 3 [va_rf t_0, .ref (g_k G 17)] h99 k n (fun i106 h105 k109 n110 =>
((i106 = 0 → K (0 : Int32) h105) ∧
(¬ (i106 = 0) → rv h105 t_0 2 (dI G Y_X2_figures cX2_figures 4 [va_rf t_0, .int (((6 : Int32) * i1) + (1 : Int32)), .int (2 : Int32)] h105 k109 n110 (fun i116 h115 k119 n120 =>
((i116 = 0 → K (0 : Int32) h115) ∧
(¬ (i116 = 0) → K (1 : Int32) h115))) xN)))) xN)))))))))) ∧
(i46 = 0 → K (0 : Int32) h45))))) ∧
(¬ (i40 = 0) → rv h39 t_0 2 (f_X2_hasOrder G h39 t_0 (7 : Int32) (fun i126 h125 =>
((i126 = 0 → K (0 : Int32) h125) ∧
(¬ (i126 = 0) → rv h125 t_0 2 (dI G Y_X2_isWord cX2_isWord 3 [va_rf t_0, .ref (g_k G 16)] h125 k n (fun i132 h131 k135 n136 =>
((i132 = 0 → K (0 : Int32) h131) ∧
(¬ (i132 = 0) → rv h131 t_0 2 (dI G Y_X2_doorHere cX2_doorHere 2 [va_rf t_0, .int ((6 : Int32) * i1)] h131 k135 n136 (fun i142 h141 k145 n146 =>
((i142 = 0 → K (0 : Int32) h141) ∧
(¬ (i142 = 0) → K (1 : Int32) h141))) xN)))) xN)))))))))) ∧
(¬ (i34 = 0) → rv h33 t_0 2 (f_X2_hasOrder G h33 t_0 (6 : Int32) (fun i152 h151 =>
((i152 = 0 → K (0 : Int32) h151) ∧
(¬ (i152 = 0) → rv h151 t_0 2 (dI G Y_X2_isWord cX2_isWord 3 [va_rf t_0, .ref (g_k G 15)] h151 k n (fun i158 h157 k161 n162 =>
((i158 = 0 → K (0 : Int32) h157) ∧
(¬ (i158 = 0) → rv h157 t_0 2 (dI G Y_X2_figures cX2_figures 4 [va_rf t_0, .int (((6 : Int32) * i1) + (1 : Int32)), .int (1 : Int32)] h157 k161 n162 (fun i168 h167 k171 n172 =>
((i168 = 0 → K (0 : Int32) h167) ∧
(¬ (i168 = 0) → rv h167 t_0 2 (f_X2_skips G h167 t_0 (32 : Int32) (fun i178 h177 =>
((i178 = 0 → K (0 : Int32) h177) ∧
(¬ (i178 = 0) → rv h177 t_0 2 (dI G Y_X2_figures cX2_figures 4 [va_rf t_0, .int (((6 : Int32) * i1) + (2 : Int32)), .int (1 : Int32)] h177 k171 n172 (fun i184 h183 k187 n188 =>
((i184 = 0 → K (0 : Int32) h183) ∧
(¬ (i184 = 0) → K (1 : Int32) h183))) xN)))))))) xN)))) xN)))))))))) ∧
(¬ (i28 = 0) → rv h27 t_0 2 (f_X2_hasOrder G h27 t_0 (5 : Int32) (fun i194 h193 =>
((i194 = 0 → K (0 : Int32) h193) ∧
(¬ (i194 = 0) → rv h193 t_0 2 (dI G Y_X2_isWord cX2_isWord 3 [va_rf t_0, .ref (g_k G 14)] h193 k n (fun i200 h199 k203 n204 =>
((i200 = 0 → K (0 : Int32) h199) ∧
(¬ (i200 = 0) → rv h199 t_0 2 (dI G Y_X2_figures cX2_figures 4 [va_rf t_0, .int (((6 : Int32) * i1) + (1 : Int32)), .int (2 : Int32)] h199 k203 n204 (fun i210 h209 k213 n214 =>
((i210 = 0 → K (0 : Int32) h209) ∧
(¬ (i210 = 0) → K (1 : Int32) h209))) xN)))) xN)))))))))) ∧
(¬ (i22 = 0) → rv h21 t_0 2 (f_X2_hasOrder G h21 t_0 (2 : Int32) (fun i220 h219 =>
((i220 = 0 → K (0 : Int32) h219) ∧
(¬ (i220 = 0) → rv h219 t_0 2 (dI G Y_X2_isWord cX2_isWord 3 [va_rf t_0, .ref (g_k G 13)] h219 k n (fun i226 h225 k229 n230 =>
((i226 = 0 → K (0 : Int32) h225) ∧
(¬ (i226 = 0) → rv h225 t_0 2 (dI G Y_X2_figures cX2_figures 4 [va_rf t_0, .int (((6 : Int32) * i1) + (1 : Int32)), .int (1 : Int32)] h225 k229 n230 (fun i236 h235 k239 n240 =>
((i236 = 0 → K (0 : Int32) h235) ∧
(¬ (i236 = 0) → K (1 : Int32) h235))) xN)))) xN)))))))))) ∧
(¬ (i16 = 0) → rv h15 t_0 2 (f_X2_hasOrder G h15 t_0 (1 : Int32) (fun i246 h245 =>
((i246 = 0 → K (0 : Int32) h245) ∧
(¬ (i246 = 0) → rv h245 t_0 2 (dI G Y_X2_isWord cX2_isWord 3 [va_rf t_0, .ref (g_k G 12)] h245 k n (fun i252 h251 k255 n256 =>
((i252 = 0 → K (0 : Int32) h251) ∧
(¬ (i252 = 0) → rv h251 t_0 2 (dI G Y_X2_figures cX2_figures 4 [va_rf t_0, .int (((6 : Int32) * i1) + (1 : Int32)), .int (2 : Int32)] h251 k255 n256 (fun i262 h261 k265 n266 =>
((i262 = 0 → K (0 : Int32) h261) ∧
(¬ (i262 = 0) → K (1 : Int32) h261))) xN)))) xN)))))))))) ∧
(¬ (i10 = 0) → rv h9 t_0 2 (f_X2_hasOrder G h9 t_0 (0 : Int32) (fun i272 h271 =>
((i272 = 0 → K (0 : Int32) h271) ∧
(¬ (i272 = 0) → rv h271 t_0 2 (dI G Y_X2_isWord cX2_isWord 3 [va_rf t_0, .ref (g_k G 11)] h271 k n (fun i278 h277 k281 n282 =>
((i278 = 0 → K (0 : Int32) h277) ∧
(¬ (i278 = 0) → rv h277 t_0 2 (dI G Y_X2_figures cX2_figures 4 [va_rf t_0, .int (((6 : Int32) * i1) + (1 : Int32)), .int (2 : Int32)] h277 k281 n282 (fun i288 h287 k291 n292 =>
((i288 = 0 → K (0 : Int32) h287) ∧
(¬ (i288 = 0) → K (1 : Int32) h287))) xN)))) xN)))))))))
theorem m_X2_orderHere {G : Gt} {h : Hp} {mc ms : Nat} {a0 : Nat} {K : Int32 → Hp → Prop} (hG : Base G) (hA : 0 ≤ mc) (hB : 0 ≤ ms) (hf : f_X2_orderHere G h (mc - 0) (ms - 0) (some a0) K) : MM G Y_X2_orderHere cX2_orderHere 2 mc ms [.ref a0] h (kI K) xN := by
  refine mm_of hG (by decide +kernel) rfl (ac_c rfl ac_nil) (Nat.le_of_ble_eq_true rfl) (fun E _ _ => ?_)
  obtain ⟨k, hk9⟩ : ∃ z, z = mc - 0 := ⟨_, rfl⟩
  obtain ⟨n, hn9⟩ : ∃ z, z = ms - 0 := ⟨_, rfl⟩
  rw [← hk9, ← hn9] at hf
  refine V.weak (k' := k + 0) (n' := n + 0) ?_ (by omega) (by omega)
  show V G E Y_X2_orderHere cX2_orderHere 2 (QM G E (kI K) xN) h (k + 0) (n + 0) 0 [(0, .ref a0)] []
  unfold f_X2_orderHere at hf
  refine v_bipush (v := 6) dX2_orderHere_0 (by decide) ?_
  refine v_qload_n (r := (some a0)) (i := 0) dX2_orderHere_2 rfl rfl ?_
  replace hf := gI_e hf
  obtain ⟨w2, fs3, i1, hh4, hk5, hf⟩ := hf
  refine v_getf (T := TX2) (ci := 2) 17 dX2_orderHere_3 q2505 rfl in_X2 (Nat.le_of_ble_eq_true rfl) (Or.inl rfl) hh4 hk5 ?_
  refine v_imul dX2_orderHere_6 ?_
  refine v_istore_n (i := 1) (lv' := [(0, va_rf (some a0)), (1, .int ((6 : Int32) * i1))]) dX2_orderHere_7 rfl (Nat.le_of_ble_eq_true rfl) rfl rfl ?_
  refine v_qload_n (r := (some a0)) (i := 0) dX2_orderHere_8 rfl rfl ?_
  refine v_bipush (v := 103) dX2_orderHere_9 (by decide) ?_
  replace hf := rv_e hf
  obtain ⟨w6, fs7, hh8, hf⟩ := hf
  refine V.addK0 ?_
  refine V.addN0 ?_
  refine v_callV (mc := 0) (ms := 0) 1 dX2_orderHere_11 (m_X2_skips hG hf) rfl hh8 rfl (lw_V q2739 q2741 qs72 q98 q2742) rfl (by decide +kernel) (by decide) rfl (cat_len (Nat.le_of_ble_eq_true rfl)) (kk_I fun i10 h9 hg => ?_) (fun _ _ _ hx => hx.elim)
  replace hf := hg
  clear hg
  refine v_if_eq 51 dX2_orderHere_14 (by decide) (fun c11 => ?_) (fun c11 => ?_)
  · replace hf := hf.1 c11
    refine v_qload_n (r := (some a0)) (i := 0) dX2_orderHere_51 rfl rfl ?_
    refine v_bipush (v := 119) dX2_orderHere_52 (by decide) ?_
    replace hf := rv_e hf
    obtain ⟨w12, fs13, hh14, hf⟩ := hf
    refine V.addK0 ?_
    refine V.addN0 ?_
    refine v_callV (mc := 0) (ms := 0) 1 dX2_orderHere_54 (m_X2_skips hG hf) rfl hh14 rfl (lw_V q2739 q2741 qs72 q98 q2742) rfl (by decide +kernel) (by decide) rfl (cat_len (Nat.le_of_ble_eq_true rfl)) (kk_I fun i16 h15 hg => ?_) (fun _ _ _ hx => hx.elim)
    replace hf := hg
    clear hg
    refine v_if_eq 94 dX2_orderHere_57 (by decide) (fun c17 => ?_) (fun c17 => ?_)
    · replace hf := hf.1 c17
      refine v_qload_n (r := (some a0)) (i := 0) dX2_orderHere_94 rfl rfl ?_
      refine v_bipush (v := 116) dX2_orderHere_95 (by decide) ?_
      replace hf := rv_e hf
      obtain ⟨w18, fs19, hh20, hf⟩ := hf
      refine V.addK0 ?_
      refine V.addN0 ?_
      refine v_callV (mc := 0) (ms := 0) 1 dX2_orderHere_97 (m_X2_skips hG hf) rfl hh20 rfl (lw_V q2739 q2741 qs72 q98 q2742) rfl (by decide +kernel) (by decide) rfl (cat_len (Nat.le_of_ble_eq_true rfl)) (kk_I fun i22 h21 hg => ?_) (fun _ _ _ hx => hx.elim)
      replace hf := hg
      clear hg
      refine v_if_eq 137 dX2_orderHere_100 (by decide) (fun c23 => ?_) (fun c23 => ?_)
      · replace hf := hf.1 c23
        refine v_qload_n (r := (some a0)) (i := 0) dX2_orderHere_137 rfl rfl ?_
        refine v_bipush (v := 114) dX2_orderHere_138 (by decide) ?_
        replace hf := rv_e hf
        obtain ⟨w24, fs25, hh26, hf⟩ := hf
        refine V.addK0 ?_
        refine V.addN0 ?_
        refine v_callV (mc := 0) (ms := 0) 1 dX2_orderHere_140 (m_X2_skips hG hf) rfl hh26 rfl (lw_V q2739 q2741 qs72 q98 q2742) rfl (by decide +kernel) (by decide) rfl (cat_len (Nat.le_of_ble_eq_true rfl)) (kk_I fun i28 h27 hg => ?_) (fun _ _ _ hx => hx.elim)
        replace hf := hg
        clear hg
        refine v_if_eq 180 dX2_orderHere_143 (by decide) (fun c29 => ?_) (fun c29 => ?_)
        · replace hf := hf.1 c29
          refine v_qload_n (r := (some a0)) (i := 0) dX2_orderHere_180 rfl rfl ?_
          refine v_bipush (v := 107) dX2_orderHere_181 (by decide) ?_
          replace hf := rv_e hf
          obtain ⟨w30, fs31, hh32, hf⟩ := hf
          refine V.addK0 ?_
          refine V.addN0 ?_
          refine v_callV (mc := 0) (ms := 0) 1 dX2_orderHere_183 (m_X2_skips hG hf) rfl hh32 rfl (lw_V q2739 q2741 qs72 q98 q2742) rfl (by decide +kernel) (by decide) rfl (cat_len (Nat.le_of_ble_eq_true rfl)) (kk_I fun i34 h33 hg => ?_) (fun _ _ _ hx => hx.elim)
          replace hf := hg
          clear hg
          refine v_if_eq 244 dX2_orderHere_186 (by decide) (fun c35 => ?_) (fun c35 => ?_)
          · replace hf := hf.1 c35
            refine v_qload_n (r := (some a0)) (i := 0) dX2_orderHere_244 rfl rfl ?_
            refine v_bipush (v := 100) dX2_orderHere_245 (by decide) ?_
            replace hf := rv_e hf
            obtain ⟨w36, fs37, hh38, hf⟩ := hf
            refine V.addK0 ?_
            refine V.addN0 ?_
            refine v_callV (mc := 0) (ms := 0) 1 dX2_orderHere_247 (m_X2_skips hG hf) rfl hh38 rfl (lw_V q2739 q2741 qs72 q98 q2742) rfl (by decide +kernel) (by decide) rfl (cat_len (Nat.le_of_ble_eq_true rfl)) (kk_I fun i40 h39 hg => ?_) (fun _ _ _ hx => hx.elim)
            replace hf := hg
            clear hg
            refine v_if_eq 285 dX2_orderHere_250 (by decide) (fun c41 => ?_) (fun c41 => ?_)
            · replace hf := hf.1 c41
              refine v_qload_n (r := (some a0)) (i := 0) dX2_orderHere_285 rfl rfl ?_
              refine v_bipush (v := 111) dX2_orderHere_286 (by decide) ?_
              replace hf := rv_e hf
              obtain ⟨w42, fs43, hh44, hf⟩ := hf
              refine V.addK0 ?_
              refine V.addN0 ?_
              refine v_callV (mc := 0) (ms := 0) 1 dX2_orderHere_288 (m_X2_skips hG hf) rfl hh44 rfl (lw_V q2739 q2741 qs72 q98 q2742) rfl (by decide +kernel) (by decide) rfl (cat_len (Nat.le_of_ble_eq_true rfl)) (kk_I fun i46 h45 hg => ?_) (fun _ _ _ hx => hx.elim)
              replace hf := hg
              clear hg
              refine v_if_ne 296 dX2_orderHere_291 (by decide) (fun c47 => ?_) (fun c47 => ?_)
              · replace hf := hf.1 c47
                refine v_qload_n (r := (some a0)) (i := 0) dX2_orderHere_296 rfl rfl ?_
                refine v_bipush (v := 112) dX2_orderHere_297 (by decide) ?_
                replace hf := rv_e hf
                obtain ⟨w48, fs49, hh50, hf⟩ := hf
                refine V.addK0 ?_
                refine V.addN0 ?_
                refine v_callV (mc := 0) (ms := 0) 1 dX2_orderHere_299 (m_X2_skips hG hf) rfl hh50 rfl (lw_V q2739 q2741 qs72 q98 q2742) rfl (by decide +kernel) (by decide) rfl (cat_len (Nat.le_of_ble_eq_true rfl)) (kk_I fun i52 h51 hg => ?_) (fun _ _ _ hx => hx.elim)
                replace hf := hg
                clear hg
                refine v_if_eq 339 dX2_orderHere_302 (by decide) (fun c53 => ?_) (fun c53 => ?_)
                · replace hf := hf.1 c53
                  refine v_qload_n (r := (some a0)) (i := 0) dX2_orderHere_339 rfl rfl ?_
                  refine v_iconst (v := 4) dX2_orderHere_340 (by decide) ?_
                  replace hf := rv_e hf
                  obtain ⟨w54, fs55, hh56, hf⟩ := hf
                  refine V.addK0 ?_
                  refine V.addN0 ?_
                  refine v_callV (mc := 0) (ms := 0) 1 dX2_orderHere_341 (m_X2_hasOrder hG hf) rfl hh56 rfl (lw_V q2747 q2749 qs74 q98 q2750) rfl (by decide +kernel) (by decide) rfl (cat_len (Nat.le_of_ble_eq_true rfl)) (kk_I fun i58 h57 hg => ?_) (fun _ _ _ hx => hx.elim)
                  replace hf := hg
                  clear hg
                  refine v_if_eq 391 dX2_orderHere_344 (by decide) (fun c59 => ?_) (fun c59 => ?_)
                  · replace hf := hf.1 c59
                    refine v_iconst (v := 0) dX2_orderHere_391 (by decide) ?_
                    exact v_zret dX2_orderHere_392 rfl (by decide) ⟨_, rfl, hf⟩
                  · replace hf := hf.2 c59
                    refine v_qload_n (r := (some a0)) (i := 0) dX2_orderHere_347 rfl rfl ?_
                    refine v_ldcS dX2_orderHere_348 (List.mem_of_getElem? (i := 27) rfl) ?_
                    replace hf := rv_e hf
                    obtain ⟨w60, fs61, hh62, hf⟩ := hf
                    obtain ⟨mc65, ms66, hkmc65, hnms66, hM⟩ := hf
                    refine V.weak (k' := ((k - mc65) + 0) + mc65) (n' := ((n - ms66) + 0) + ms66) ?_ (by omega) (by omega)
                    refine v_callV 1 dX2_orderHere_350 hM rfl hh62 rfl (lw_V q2752 q2754 qs75 q98 q2755) rfl (by decide +kernel) (by decide) rfl (cat_len (Nat.le_of_ble_eq_true rfl)) (kk_I fun i64 h63 hg => ?_) (fun _ _ _ hx => hx.elim)
                    have hf := hg
                    clear hg
                    refine v_if_eq 391 dX2_orderHere_353 (by decide) (fun c69 => ?_) (fun c69 => ?_)
                    · replace hf := hf.1 c69
                      refine v_iconst (v := 0) dX2_orderHere_391 (by decide) ?_
                      exact v_zret dX2_orderHere_392 rfl (by decide) ⟨_, rfl, hf⟩
                    · replace hf := hf.2 c69
                      refine v_qload_n (r := (some a0)) (i := 0) dX2_orderHere_356 rfl rfl ?_
                      refine v_iload_n (i := 1) dX2_orderHere_357 rfl rfl ?_
                      refine v_iconst (v := 1) dX2_orderHere_358 (by decide) ?_
                      refine v_iadd dX2_orderHere_359 ?_
                      refine v_iconst (v := 1) dX2_orderHere_360 (by decide) ?_
                      replace hf := rv_e hf
                      obtain ⟨w70, fs71, hh72, hf⟩ := hf
                      obtain ⟨mc75, ms76, hkmc75, hnms76, hM⟩ := hf
                      refine V.weak (k' := (((k - mc65) - mc75) + 0) + mc75) (n' := (((n - ms66) - ms76) + 0) + ms76) ?_ (by omega) (by omega)
                      refine v_callV 2 dX2_orderHere_361 hM rfl hh72 rfl (lw_V q2758 q2760 qs76 q98 q2761) rfl (by decide +kernel) (by decide) rfl (cat_len (Nat.le_of_ble_eq_true rfl)) (kk_I fun i74 h73 hg => ?_) (fun _ _ _ hx => hx.elim)
                      have hf := hg
                      clear hg
                      refine v_if_eq 391 dX2_orderHere_364 (by decide) (fun c79 => ?_) (fun c79 => ?_)
                      · replace hf := hf.1 c79
                        refine v_iconst (v := 0) dX2_orderHere_391 (by decide) ?_
                        exact v_zret dX2_orderHere_392 rfl (by decide) ⟨_, rfl, hf⟩
                      · replace hf := hf.2 c79
                        refine v_qload_n (r := (some a0)) (i := 0) dX2_orderHere_367 rfl rfl ?_
                        refine v_bipush (v := 32) dX2_orderHere_368 (by decide) ?_
                        replace hf := rv_e hf
                        obtain ⟨w80, fs81, hh82, hf⟩ := hf
                        refine V.addK0 ?_
                        refine V.addN0 ?_
                        refine v_callV (mc := 0) (ms := 0) 1 dX2_orderHere_370 (m_X2_skips hG hf) rfl hh82 rfl (lw_V q2739 q2741 qs72 q98 q2742) rfl (by decide +kernel) (by decide) rfl (cat_len (Nat.le_of_ble_eq_true rfl)) (kk_I fun i84 h83 hg => ?_) (fun _ _ _ hx => hx.elim)
                        replace hf := hg
                        clear hg
                        refine v_if_eq 391 dX2_orderHere_373 (by decide) (fun c85 => ?_) (fun c85 => ?_)
                        · replace hf := hf.1 c85
                          refine v_iconst (v := 0) dX2_orderHere_391 (by decide) ?_
                          exact v_zret dX2_orderHere_392 rfl (by decide) ⟨_, rfl, hf⟩
                        · replace hf := hf.2 c85
                          refine v_qload_n (r := (some a0)) (i := 0) dX2_orderHere_376 rfl rfl ?_
                          refine v_iload_n (i := 1) dX2_orderHere_377 rfl rfl ?_
                          refine v_iconst (v := 2) dX2_orderHere_378 (by decide) ?_
                          refine v_iadd dX2_orderHere_379 ?_
                          refine v_iconst (v := 2) dX2_orderHere_380 (by decide) ?_
                          replace hf := rv_e hf
                          obtain ⟨w86, fs87, hh88, hf⟩ := hf
                          obtain ⟨mc91, ms92, hkmc91, hnms92, hM⟩ := hf
                          refine V.weak (k' := ((((k - mc65) - mc75) - mc91) + 0) + mc91) (n' := ((((n - ms66) - ms76) - ms92) + 0) + ms92) ?_ (by omega) (by omega)
                          refine v_callV 2 dX2_orderHere_381 hM rfl hh88 rfl (lw_V q2758 q2760 qs76 q98 q2761) rfl (by decide +kernel) (by decide) rfl (cat_len (Nat.le_of_ble_eq_true rfl)) (kk_I fun i90 h89 hg => ?_) (fun _ _ _ hx => hx.elim)
                          have hf := hg
                          clear hg
                          refine v_if_eq 391 dX2_orderHere_384 (by decide) (fun c95 => ?_) (fun c95 => ?_)
                          · replace hf := hf.1 c95
                            refine v_iconst (v := 0) dX2_orderHere_391 (by decide) ?_
                            exact v_zret dX2_orderHere_392 rfl (by decide) ⟨_, rfl, hf⟩
                          · replace hf := hf.2 c95
                            refine v_iconst (v := 1) dX2_orderHere_387 (by decide) ?_
                            refine v_goto 392 dX2_orderHere_388 (by decide) ?_
                            exact v_zret dX2_orderHere_392 rfl (by decide) ⟨_, rfl, hf⟩
                · replace hf := hf.2 c53
                  refine v_qload_n (r := (some a0)) (i := 0) dX2_orderHere_305 rfl rfl ?_
                  refine v_iconst (v := 3) dX2_orderHere_306 (by decide) ?_
                  replace hf := rv_e hf
                  obtain ⟨w96, fs97, hh98, hf⟩ := hf
                  refine V.addK0 ?_
                  refine V.addN0 ?_
                  refine v_callV (mc := 0) (ms := 0) 1 dX2_orderHere_307 (m_X2_hasOrder hG hf) rfl hh98 rfl (lw_V q2747 q2749 qs74 q98 q2750) rfl (by decide +kernel) (by decide) rfl (cat_len (Nat.le_of_ble_eq_true rfl)) (kk_I fun i100 h99 hg => ?_) (fun _ _ _ hx => hx.elim)
                  replace hf := hg
                  clear hg
                  refine v_if_eq 337 dX2_orderHere_310 (by decide) (fun c101 => ?_) (fun c101 => ?_)
                  · replace hf := hf.1 c101
                    refine v_iconst (v := 0) dX2_orderHere_337 (by decide) ?_
                    exact v_zret dX2_orderHere_338 rfl (by decide) ⟨_, rfl, hf⟩
                  · replace hf := hf.2 c101
                    refine v_qload_n (r := (some a0)) (i := 0) dX2_orderHere_313 rfl rfl ?_
                    refine v_ldcS dX2_orderHere_314 (List.mem_of_getElem? (i := 26) rfl) ?_
                    replace hf := rv_e hf
                    obtain ⟨w102, fs103, hh104, hf⟩ := hf
                    obtain ⟨mc107, ms108, hkmc107, hnms108, hM⟩ := hf
                    refine V.weak (k' := ((k - mc107) + 0) + mc107) (n' := ((n - ms108) + 0) + ms108) ?_ (by omega) (by omega)
                    refine v_callV 1 dX2_orderHere_316 hM rfl hh104 rfl (lw_V q2752 q2754 qs75 q98 q2755) rfl (by decide +kernel) (by decide) rfl (cat_len (Nat.le_of_ble_eq_true rfl)) (kk_I fun i106 h105 hg => ?_) (fun _ _ _ hx => hx.elim)
                    have hf := hg
                    clear hg
                    refine v_if_eq 337 dX2_orderHere_319 (by decide) (fun c111 => ?_) (fun c111 => ?_)
                    · replace hf := hf.1 c111
                      refine v_iconst (v := 0) dX2_orderHere_337 (by decide) ?_
                      exact v_zret dX2_orderHere_338 rfl (by decide) ⟨_, rfl, hf⟩
                    · replace hf := hf.2 c111
                      refine v_qload_n (r := (some a0)) (i := 0) dX2_orderHere_322 rfl rfl ?_
                      refine v_iload_n (i := 1) dX2_orderHere_323 rfl rfl ?_
                      refine v_iconst (v := 1) dX2_orderHere_324 (by decide) ?_
                      refine v_iadd dX2_orderHere_325 ?_
                      refine v_iconst (v := 2) dX2_orderHere_326 (by decide) ?_
                      replace hf := rv_e hf
                      obtain ⟨w112, fs113, hh114, hf⟩ := hf
                      obtain ⟨mc117, ms118, hkmc117, hnms118, hM⟩ := hf
                      refine V.weak (k' := (((k - mc107) - mc117) + 0) + mc117) (n' := (((n - ms108) - ms118) + 0) + ms118) ?_ (by omega) (by omega)
                      refine v_callV 2 dX2_orderHere_327 hM rfl hh114 rfl (lw_V q2758 q2760 qs76 q98 q2761) rfl (by decide +kernel) (by decide) rfl (cat_len (Nat.le_of_ble_eq_true rfl)) (kk_I fun i116 h115 hg => ?_) (fun _ _ _ hx => hx.elim)
                      have hf := hg
                      clear hg
                      refine v_if_eq 337 dX2_orderHere_330 (by decide) (fun c121 => ?_) (fun c121 => ?_)
                      · replace hf := hf.1 c121
                        refine v_iconst (v := 0) dX2_orderHere_337 (by decide) ?_
                        exact v_zret dX2_orderHere_338 rfl (by decide) ⟨_, rfl, hf⟩
                      · replace hf := hf.2 c121
                        refine v_iconst (v := 1) dX2_orderHere_333 (by decide) ?_
                        refine v_goto 338 dX2_orderHere_334 (by decide) ?_
                        exact v_zret dX2_orderHere_338 rfl (by decide) ⟨_, rfl, hf⟩
              · replace hf := hf.2 c47
                refine v_iconst (v := 0) dX2_orderHere_294 (by decide) ?_
                exact v_zret dX2_orderHere_295 rfl (by decide) ⟨_, rfl, hf⟩
            · replace hf := hf.2 c41
              refine v_qload_n (r := (some a0)) (i := 0) dX2_orderHere_253 rfl rfl ?_
              refine v_bipush (v := 7) dX2_orderHere_254 (by decide) ?_
              replace hf := rv_e hf
              obtain ⟨w122, fs123, hh124, hf⟩ := hf
              refine V.addK0 ?_
              refine V.addN0 ?_
              refine v_callV (mc := 0) (ms := 0) 1 dX2_orderHere_256 (m_X2_hasOrder hG hf) rfl hh124 rfl (lw_V q2747 q2749 qs74 q98 q2750) rfl (by decide +kernel) (by decide) rfl (cat_len (Nat.le_of_ble_eq_true rfl)) (kk_I fun i126 h125 hg => ?_) (fun _ _ _ hx => hx.elim)
              replace hf := hg
              clear hg
              refine v_if_eq 283 dX2_orderHere_259 (by decide) (fun c127 => ?_) (fun c127 => ?_)
              · replace hf := hf.1 c127
                refine v_iconst (v := 0) dX2_orderHere_283 (by decide) ?_
                exact v_zret dX2_orderHere_284 rfl (by decide) ⟨_, rfl, hf⟩
              · replace hf := hf.2 c127
                refine v_qload_n (r := (some a0)) (i := 0) dX2_orderHere_262 rfl rfl ?_
                refine v_ldcS dX2_orderHere_263 (List.mem_of_getElem? (i := 25) rfl) ?_
                replace hf := rv_e hf
                obtain ⟨w128, fs129, hh130, hf⟩ := hf
                obtain ⟨mc133, ms134, hkmc133, hnms134, hM⟩ := hf
                refine V.weak (k' := ((k - mc133) + 0) + mc133) (n' := ((n - ms134) + 0) + ms134) ?_ (by omega) (by omega)
                refine v_callV 1 dX2_orderHere_265 hM rfl hh130 rfl (lw_V q2752 q2754 qs75 q98 q2755) rfl (by decide +kernel) (by decide) rfl (cat_len (Nat.le_of_ble_eq_true rfl)) (kk_I fun i132 h131 hg => ?_) (fun _ _ _ hx => hx.elim)
                have hf := hg
                clear hg
                refine v_if_eq 283 dX2_orderHere_268 (by decide) (fun c137 => ?_) (fun c137 => ?_)
                · replace hf := hf.1 c137
                  refine v_iconst (v := 0) dX2_orderHere_283 (by decide) ?_
                  exact v_zret dX2_orderHere_284 rfl (by decide) ⟨_, rfl, hf⟩
                · replace hf := hf.2 c137
                  refine v_qload_n (r := (some a0)) (i := 0) dX2_orderHere_271 rfl rfl ?_
                  refine v_iload_n (i := 1) dX2_orderHere_272 rfl rfl ?_
                  replace hf := rv_e hf
                  obtain ⟨w138, fs139, hh140, hf⟩ := hf
                  obtain ⟨mc143, ms144, hkmc143, hnms144, hM⟩ := hf
                  refine V.weak (k' := (((k - mc133) - mc143) + 0) + mc143) (n' := (((n - ms134) - ms144) + 0) + ms144) ?_ (by omega) (by omega)
                  refine v_callV 1 dX2_orderHere_273 hM rfl hh140 rfl (lw_V q2767 q2769 qs77 q98 q2770) rfl (by decide +kernel) (by decide) rfl (cat_len (Nat.le_of_ble_eq_true rfl)) (kk_I fun i142 h141 hg => ?_) (fun _ _ _ hx => hx.elim)
                  have hf := hg
                  clear hg
                  refine v_if_eq 283 dX2_orderHere_276 (by decide) (fun c147 => ?_) (fun c147 => ?_)
                  · replace hf := hf.1 c147
                    refine v_iconst (v := 0) dX2_orderHere_283 (by decide) ?_
                    exact v_zret dX2_orderHere_284 rfl (by decide) ⟨_, rfl, hf⟩
                  · replace hf := hf.2 c147
                    refine v_iconst (v := 1) dX2_orderHere_279 (by decide) ?_
                    refine v_goto 284 dX2_orderHere_280 (by decide) ?_
                    exact v_zret dX2_orderHere_284 rfl (by decide) ⟨_, rfl, hf⟩
          · replace hf := hf.2 c35
            refine v_qload_n (r := (some a0)) (i := 0) dX2_orderHere_189 rfl rfl ?_
            refine v_bipush (v := 6) dX2_orderHere_190 (by decide) ?_
            replace hf := rv_e hf
            obtain ⟨w148, fs149, hh150, hf⟩ := hf
            refine V.addK0 ?_
            refine V.addN0 ?_
            refine v_callV (mc := 0) (ms := 0) 1 dX2_orderHere_192 (m_X2_hasOrder hG hf) rfl hh150 rfl (lw_V q2747 q2749 qs74 q98 q2750) rfl (by decide +kernel) (by decide) rfl (cat_len (Nat.le_of_ble_eq_true rfl)) (kk_I fun i152 h151 hg => ?_) (fun _ _ _ hx => hx.elim)
            replace hf := hg
            clear hg
            refine v_if_eq 242 dX2_orderHere_195 (by decide) (fun c153 => ?_) (fun c153 => ?_)
            · replace hf := hf.1 c153
              refine v_iconst (v := 0) dX2_orderHere_242 (by decide) ?_
              exact v_zret dX2_orderHere_243 rfl (by decide) ⟨_, rfl, hf⟩
            · replace hf := hf.2 c153
              refine v_qload_n (r := (some a0)) (i := 0) dX2_orderHere_198 rfl rfl ?_
              refine v_ldcS dX2_orderHere_199 (List.mem_of_getElem? (i := 24) rfl) ?_
              replace hf := rv_e hf
              obtain ⟨w154, fs155, hh156, hf⟩ := hf
              obtain ⟨mc159, ms160, hkmc159, hnms160, hM⟩ := hf
              refine V.weak (k' := ((k - mc159) + 0) + mc159) (n' := ((n - ms160) + 0) + ms160) ?_ (by omega) (by omega)
              refine v_callV 1 dX2_orderHere_201 hM rfl hh156 rfl (lw_V q2752 q2754 qs75 q98 q2755) rfl (by decide +kernel) (by decide) rfl (cat_len (Nat.le_of_ble_eq_true rfl)) (kk_I fun i158 h157 hg => ?_) (fun _ _ _ hx => hx.elim)
              have hf := hg
              clear hg
              refine v_if_eq 242 dX2_orderHere_204 (by decide) (fun c163 => ?_) (fun c163 => ?_)
              · replace hf := hf.1 c163
                refine v_iconst (v := 0) dX2_orderHere_242 (by decide) ?_
                exact v_zret dX2_orderHere_243 rfl (by decide) ⟨_, rfl, hf⟩
              · replace hf := hf.2 c163
                refine v_qload_n (r := (some a0)) (i := 0) dX2_orderHere_207 rfl rfl ?_
                refine v_iload_n (i := 1) dX2_orderHere_208 rfl rfl ?_
                refine v_iconst (v := 1) dX2_orderHere_209 (by decide) ?_
                refine v_iadd dX2_orderHere_210 ?_
                refine v_iconst (v := 1) dX2_orderHere_211 (by decide) ?_
                replace hf := rv_e hf
                obtain ⟨w164, fs165, hh166, hf⟩ := hf
                obtain ⟨mc169, ms170, hkmc169, hnms170, hM⟩ := hf
                refine V.weak (k' := (((k - mc159) - mc169) + 0) + mc169) (n' := (((n - ms160) - ms170) + 0) + ms170) ?_ (by omega) (by omega)
                refine v_callV 2 dX2_orderHere_212 hM rfl hh166 rfl (lw_V q2758 q2760 qs76 q98 q2761) rfl (by decide +kernel) (by decide) rfl (cat_len (Nat.le_of_ble_eq_true rfl)) (kk_I fun i168 h167 hg => ?_) (fun _ _ _ hx => hx.elim)
                have hf := hg
                clear hg
                refine v_if_eq 242 dX2_orderHere_215 (by decide) (fun c173 => ?_) (fun c173 => ?_)
                · replace hf := hf.1 c173
                  refine v_iconst (v := 0) dX2_orderHere_242 (by decide) ?_
                  exact v_zret dX2_orderHere_243 rfl (by decide) ⟨_, rfl, hf⟩
                · replace hf := hf.2 c173
                  refine v_qload_n (r := (some a0)) (i := 0) dX2_orderHere_218 rfl rfl ?_
                  refine v_bipush (v := 32) dX2_orderHere_219 (by decide) ?_
                  replace hf := rv_e hf
                  obtain ⟨w174, fs175, hh176, hf⟩ := hf
                  refine V.addK0 ?_
                  refine V.addN0 ?_
                  refine v_callV (mc := 0) (ms := 0) 1 dX2_orderHere_221 (m_X2_skips hG hf) rfl hh176 rfl (lw_V q2739 q2741 qs72 q98 q2742) rfl (by decide +kernel) (by decide) rfl (cat_len (Nat.le_of_ble_eq_true rfl)) (kk_I fun i178 h177 hg => ?_) (fun _ _ _ hx => hx.elim)
                  replace hf := hg
                  clear hg
                  refine v_if_eq 242 dX2_orderHere_224 (by decide) (fun c179 => ?_) (fun c179 => ?_)
                  · replace hf := hf.1 c179
                    refine v_iconst (v := 0) dX2_orderHere_242 (by decide) ?_
                    exact v_zret dX2_orderHere_243 rfl (by decide) ⟨_, rfl, hf⟩
                  · replace hf := hf.2 c179
                    refine v_qload_n (r := (some a0)) (i := 0) dX2_orderHere_227 rfl rfl ?_
                    refine v_iload_n (i := 1) dX2_orderHere_228 rfl rfl ?_
                    refine v_iconst (v := 2) dX2_orderHere_229 (by decide) ?_
                    refine v_iadd dX2_orderHere_230 ?_
                    refine v_iconst (v := 1) dX2_orderHere_231 (by decide) ?_
                    replace hf := rv_e hf
                    obtain ⟨w180, fs181, hh182, hf⟩ := hf
                    obtain ⟨mc185, ms186, hkmc185, hnms186, hM⟩ := hf
                    refine V.weak (k' := ((((k - mc159) - mc169) - mc185) + 0) + mc185) (n' := ((((n - ms160) - ms170) - ms186) + 0) + ms186) ?_ (by omega) (by omega)
                    refine v_callV 2 dX2_orderHere_232 hM rfl hh182 rfl (lw_V q2758 q2760 qs76 q98 q2761) rfl (by decide +kernel) (by decide) rfl (cat_len (Nat.le_of_ble_eq_true rfl)) (kk_I fun i184 h183 hg => ?_) (fun _ _ _ hx => hx.elim)
                    have hf := hg
                    clear hg
                    refine v_if_eq 242 dX2_orderHere_235 (by decide) (fun c189 => ?_) (fun c189 => ?_)
                    · replace hf := hf.1 c189
                      refine v_iconst (v := 0) dX2_orderHere_242 (by decide) ?_
                      exact v_zret dX2_orderHere_243 rfl (by decide) ⟨_, rfl, hf⟩
                    · replace hf := hf.2 c189
                      refine v_iconst (v := 1) dX2_orderHere_238 (by decide) ?_
                      refine v_goto 243 dX2_orderHere_239 (by decide) ?_
                      exact v_zret dX2_orderHere_243 rfl (by decide) ⟨_, rfl, hf⟩
        · replace hf := hf.2 c29
          refine v_qload_n (r := (some a0)) (i := 0) dX2_orderHere_146 rfl rfl ?_
          refine v_iconst (v := 5) dX2_orderHere_147 (by decide) ?_
          replace hf := rv_e hf
          obtain ⟨w190, fs191, hh192, hf⟩ := hf
          refine V.addK0 ?_
          refine V.addN0 ?_
          refine v_callV (mc := 0) (ms := 0) 1 dX2_orderHere_148 (m_X2_hasOrder hG hf) rfl hh192 rfl (lw_V q2747 q2749 qs74 q98 q2750) rfl (by decide +kernel) (by decide) rfl (cat_len (Nat.le_of_ble_eq_true rfl)) (kk_I fun i194 h193 hg => ?_) (fun _ _ _ hx => hx.elim)
          replace hf := hg
          clear hg
          refine v_if_eq 178 dX2_orderHere_151 (by decide) (fun c195 => ?_) (fun c195 => ?_)
          · replace hf := hf.1 c195
            refine v_iconst (v := 0) dX2_orderHere_178 (by decide) ?_
            exact v_zret dX2_orderHere_179 rfl (by decide) ⟨_, rfl, hf⟩
          · replace hf := hf.2 c195
            refine v_qload_n (r := (some a0)) (i := 0) dX2_orderHere_154 rfl rfl ?_
            refine v_ldcS dX2_orderHere_155 (List.mem_of_getElem? (i := 23) rfl) ?_
            replace hf := rv_e hf
            obtain ⟨w196, fs197, hh198, hf⟩ := hf
            obtain ⟨mc201, ms202, hkmc201, hnms202, hM⟩ := hf
            refine V.weak (k' := ((k - mc201) + 0) + mc201) (n' := ((n - ms202) + 0) + ms202) ?_ (by omega) (by omega)
            refine v_callV 1 dX2_orderHere_157 hM rfl hh198 rfl (lw_V q2752 q2754 qs75 q98 q2755) rfl (by decide +kernel) (by decide) rfl (cat_len (Nat.le_of_ble_eq_true rfl)) (kk_I fun i200 h199 hg => ?_) (fun _ _ _ hx => hx.elim)
            have hf := hg
            clear hg
            refine v_if_eq 178 dX2_orderHere_160 (by decide) (fun c205 => ?_) (fun c205 => ?_)
            · replace hf := hf.1 c205
              refine v_iconst (v := 0) dX2_orderHere_178 (by decide) ?_
              exact v_zret dX2_orderHere_179 rfl (by decide) ⟨_, rfl, hf⟩
            · replace hf := hf.2 c205
              refine v_qload_n (r := (some a0)) (i := 0) dX2_orderHere_163 rfl rfl ?_
              refine v_iload_n (i := 1) dX2_orderHere_164 rfl rfl ?_
              refine v_iconst (v := 1) dX2_orderHere_165 (by decide) ?_
              refine v_iadd dX2_orderHere_166 ?_
              refine v_iconst (v := 2) dX2_orderHere_167 (by decide) ?_
              replace hf := rv_e hf
              obtain ⟨w206, fs207, hh208, hf⟩ := hf
              obtain ⟨mc211, ms212, hkmc211, hnms212, hM⟩ := hf
              refine V.weak (k' := (((k - mc201) - mc211) + 0) + mc211) (n' := (((n - ms202) - ms212) + 0) + ms212) ?_ (by omega) (by omega)
              refine v_callV 2 dX2_orderHere_168 hM rfl hh208 rfl (lw_V q2758 q2760 qs76 q98 q2761) rfl (by decide +kernel) (by decide) rfl (cat_len (Nat.le_of_ble_eq_true rfl)) (kk_I fun i210 h209 hg => ?_) (fun _ _ _ hx => hx.elim)
              have hf := hg
              clear hg
              refine v_if_eq 178 dX2_orderHere_171 (by decide) (fun c215 => ?_) (fun c215 => ?_)
              · replace hf := hf.1 c215
                refine v_iconst (v := 0) dX2_orderHere_178 (by decide) ?_
                exact v_zret dX2_orderHere_179 rfl (by decide) ⟨_, rfl, hf⟩
              · replace hf := hf.2 c215
                refine v_iconst (v := 1) dX2_orderHere_174 (by decide) ?_
                refine v_goto 179 dX2_orderHere_175 (by decide) ?_
                exact v_zret dX2_orderHere_179 rfl (by decide) ⟨_, rfl, hf⟩
      · replace hf := hf.2 c23
        refine v_qload_n (r := (some a0)) (i := 0) dX2_orderHere_103 rfl rfl ?_
        refine v_iconst (v := 2) dX2_orderHere_104 (by decide) ?_
        replace hf := rv_e hf
        obtain ⟨w216, fs217, hh218, hf⟩ := hf
        refine V.addK0 ?_
        refine V.addN0 ?_
        refine v_callV (mc := 0) (ms := 0) 1 dX2_orderHere_105 (m_X2_hasOrder hG hf) rfl hh218 rfl (lw_V q2747 q2749 qs74 q98 q2750) rfl (by decide +kernel) (by decide) rfl (cat_len (Nat.le_of_ble_eq_true rfl)) (kk_I fun i220 h219 hg => ?_) (fun _ _ _ hx => hx.elim)
        replace hf := hg
        clear hg
        refine v_if_eq 135 dX2_orderHere_108 (by decide) (fun c221 => ?_) (fun c221 => ?_)
        · replace hf := hf.1 c221
          refine v_iconst (v := 0) dX2_orderHere_135 (by decide) ?_
          exact v_zret dX2_orderHere_136 rfl (by decide) ⟨_, rfl, hf⟩
        · replace hf := hf.2 c221
          refine v_qload_n (r := (some a0)) (i := 0) dX2_orderHere_111 rfl rfl ?_
          refine v_ldcS dX2_orderHere_112 (List.mem_of_getElem? (i := 22) rfl) ?_
          replace hf := rv_e hf
          obtain ⟨w222, fs223, hh224, hf⟩ := hf
          obtain ⟨mc227, ms228, hkmc227, hnms228, hM⟩ := hf
          refine V.weak (k' := ((k - mc227) + 0) + mc227) (n' := ((n - ms228) + 0) + ms228) ?_ (by omega) (by omega)
          refine v_callV 1 dX2_orderHere_114 hM rfl hh224 rfl (lw_V q2752 q2754 qs75 q98 q2755) rfl (by decide +kernel) (by decide) rfl (cat_len (Nat.le_of_ble_eq_true rfl)) (kk_I fun i226 h225 hg => ?_) (fun _ _ _ hx => hx.elim)
          have hf := hg
          clear hg
          refine v_if_eq 135 dX2_orderHere_117 (by decide) (fun c231 => ?_) (fun c231 => ?_)
          · replace hf := hf.1 c231
            refine v_iconst (v := 0) dX2_orderHere_135 (by decide) ?_
            exact v_zret dX2_orderHere_136 rfl (by decide) ⟨_, rfl, hf⟩
          · replace hf := hf.2 c231
            refine v_qload_n (r := (some a0)) (i := 0) dX2_orderHere_120 rfl rfl ?_
            refine v_iload_n (i := 1) dX2_orderHere_121 rfl rfl ?_
            refine v_iconst (v := 1) dX2_orderHere_122 (by decide) ?_
            refine v_iadd dX2_orderHere_123 ?_
            refine v_iconst (v := 1) dX2_orderHere_124 (by decide) ?_
            replace hf := rv_e hf
            obtain ⟨w232, fs233, hh234, hf⟩ := hf
            obtain ⟨mc237, ms238, hkmc237, hnms238, hM⟩ := hf
            refine V.weak (k' := (((k - mc227) - mc237) + 0) + mc237) (n' := (((n - ms228) - ms238) + 0) + ms238) ?_ (by omega) (by omega)
            refine v_callV 2 dX2_orderHere_125 hM rfl hh234 rfl (lw_V q2758 q2760 qs76 q98 q2761) rfl (by decide +kernel) (by decide) rfl (cat_len (Nat.le_of_ble_eq_true rfl)) (kk_I fun i236 h235 hg => ?_) (fun _ _ _ hx => hx.elim)
            have hf := hg
            clear hg
            refine v_if_eq 135 dX2_orderHere_128 (by decide) (fun c241 => ?_) (fun c241 => ?_)
            · replace hf := hf.1 c241
              refine v_iconst (v := 0) dX2_orderHere_135 (by decide) ?_
              exact v_zret dX2_orderHere_136 rfl (by decide) ⟨_, rfl, hf⟩
            · replace hf := hf.2 c241
              refine v_iconst (v := 1) dX2_orderHere_131 (by decide) ?_
              refine v_goto 136 dX2_orderHere_132 (by decide) ?_
              exact v_zret dX2_orderHere_136 rfl (by decide) ⟨_, rfl, hf⟩
    · replace hf := hf.2 c17
      refine v_qload_n (r := (some a0)) (i := 0) dX2_orderHere_60 rfl rfl ?_
      refine v_iconst (v := 1) dX2_orderHere_61 (by decide) ?_
      replace hf := rv_e hf
      obtain ⟨w242, fs243, hh244, hf⟩ := hf
      refine V.addK0 ?_
      refine V.addN0 ?_
      refine v_callV (mc := 0) (ms := 0) 1 dX2_orderHere_62 (m_X2_hasOrder hG hf) rfl hh244 rfl (lw_V q2747 q2749 qs74 q98 q2750) rfl (by decide +kernel) (by decide) rfl (cat_len (Nat.le_of_ble_eq_true rfl)) (kk_I fun i246 h245 hg => ?_) (fun _ _ _ hx => hx.elim)
      replace hf := hg
      clear hg
      refine v_if_eq 92 dX2_orderHere_65 (by decide) (fun c247 => ?_) (fun c247 => ?_)
      · replace hf := hf.1 c247
        refine v_iconst (v := 0) dX2_orderHere_92 (by decide) ?_
        exact v_zret dX2_orderHere_93 rfl (by decide) ⟨_, rfl, hf⟩
      · replace hf := hf.2 c247
        refine v_qload_n (r := (some a0)) (i := 0) dX2_orderHere_68 rfl rfl ?_
        refine v_ldcS dX2_orderHere_69 (List.mem_of_getElem? (i := 21) rfl) ?_
        replace hf := rv_e hf
        obtain ⟨w248, fs249, hh250, hf⟩ := hf
        obtain ⟨mc253, ms254, hkmc253, hnms254, hM⟩ := hf
        refine V.weak (k' := ((k - mc253) + 0) + mc253) (n' := ((n - ms254) + 0) + ms254) ?_ (by omega) (by omega)
        refine v_callV 1 dX2_orderHere_71 hM rfl hh250 rfl (lw_V q2752 q2754 qs75 q98 q2755) rfl (by decide +kernel) (by decide) rfl (cat_len (Nat.le_of_ble_eq_true rfl)) (kk_I fun i252 h251 hg => ?_) (fun _ _ _ hx => hx.elim)
        have hf := hg
        clear hg
        refine v_if_eq 92 dX2_orderHere_74 (by decide) (fun c257 => ?_) (fun c257 => ?_)
        · replace hf := hf.1 c257
          refine v_iconst (v := 0) dX2_orderHere_92 (by decide) ?_
          exact v_zret dX2_orderHere_93 rfl (by decide) ⟨_, rfl, hf⟩
        · replace hf := hf.2 c257
          refine v_qload_n (r := (some a0)) (i := 0) dX2_orderHere_77 rfl rfl ?_
          refine v_iload_n (i := 1) dX2_orderHere_78 rfl rfl ?_
          refine v_iconst (v := 1) dX2_orderHere_79 (by decide) ?_
          refine v_iadd dX2_orderHere_80 ?_
          refine v_iconst (v := 2) dX2_orderHere_81 (by decide) ?_
          replace hf := rv_e hf
          obtain ⟨w258, fs259, hh260, hf⟩ := hf
          obtain ⟨mc263, ms264, hkmc263, hnms264, hM⟩ := hf
          refine V.weak (k' := (((k - mc253) - mc263) + 0) + mc263) (n' := (((n - ms254) - ms264) + 0) + ms264) ?_ (by omega) (by omega)
          refine v_callV 2 dX2_orderHere_82 hM rfl hh260 rfl (lw_V q2758 q2760 qs76 q98 q2761) rfl (by decide +kernel) (by decide) rfl (cat_len (Nat.le_of_ble_eq_true rfl)) (kk_I fun i262 h261 hg => ?_) (fun _ _ _ hx => hx.elim)
          have hf := hg
          clear hg
          refine v_if_eq 92 dX2_orderHere_85 (by decide) (fun c267 => ?_) (fun c267 => ?_)
          · replace hf := hf.1 c267
            refine v_iconst (v := 0) dX2_orderHere_92 (by decide) ?_
            exact v_zret dX2_orderHere_93 rfl (by decide) ⟨_, rfl, hf⟩
          · replace hf := hf.2 c267
            refine v_iconst (v := 1) dX2_orderHere_88 (by decide) ?_
            refine v_goto 93 dX2_orderHere_89 (by decide) ?_
            exact v_zret dX2_orderHere_93 rfl (by decide) ⟨_, rfl, hf⟩
  · replace hf := hf.2 c11
    refine v_qload_n (r := (some a0)) (i := 0) dX2_orderHere_17 rfl rfl ?_
    refine v_iconst (v := 0) dX2_orderHere_18 (by decide) ?_
    replace hf := rv_e hf
    obtain ⟨w268, fs269, hh270, hf⟩ := hf
    refine V.addK0 ?_
    refine V.addN0 ?_
    refine v_callV (mc := 0) (ms := 0) 1 dX2_orderHere_19 (m_X2_hasOrder hG hf) rfl hh270 rfl (lw_V q2747 q2749 qs74 q98 q2750) rfl (by decide +kernel) (by decide) rfl (cat_len (Nat.le_of_ble_eq_true rfl)) (kk_I fun i272 h271 hg => ?_) (fun _ _ _ hx => hx.elim)
    replace hf := hg
    clear hg
    refine v_if_eq 49 dX2_orderHere_22 (by decide) (fun c273 => ?_) (fun c273 => ?_)
    · replace hf := hf.1 c273
      refine v_iconst (v := 0) dX2_orderHere_49 (by decide) ?_
      exact v_zret dX2_orderHere_50 rfl (by decide) ⟨_, rfl, hf⟩
    · replace hf := hf.2 c273
      refine v_qload_n (r := (some a0)) (i := 0) dX2_orderHere_25 rfl rfl ?_
      refine v_ldcS dX2_orderHere_26 (List.mem_of_getElem? (i := 20) rfl) ?_
      replace hf := rv_e hf
      obtain ⟨w274, fs275, hh276, hf⟩ := hf
      obtain ⟨mc279, ms280, hkmc279, hnms280, hM⟩ := hf
      refine V.weak (k' := ((k - mc279) + 0) + mc279) (n' := ((n - ms280) + 0) + ms280) ?_ (by omega) (by omega)
      refine v_callV 1 dX2_orderHere_28 hM rfl hh276 rfl (lw_V q2752 q2754 qs75 q98 q2755) rfl (by decide +kernel) (by decide) rfl (cat_len (Nat.le_of_ble_eq_true rfl)) (kk_I fun i278 h277 hg => ?_) (fun _ _ _ hx => hx.elim)
      have hf := hg
      clear hg
      refine v_if_eq 49 dX2_orderHere_31 (by decide) (fun c283 => ?_) (fun c283 => ?_)
      · replace hf := hf.1 c283
        refine v_iconst (v := 0) dX2_orderHere_49 (by decide) ?_
        exact v_zret dX2_orderHere_50 rfl (by decide) ⟨_, rfl, hf⟩
      · replace hf := hf.2 c283
        refine v_qload_n (r := (some a0)) (i := 0) dX2_orderHere_34 rfl rfl ?_
        refine v_iload_n (i := 1) dX2_orderHere_35 rfl rfl ?_
        refine v_iconst (v := 1) dX2_orderHere_36 (by decide) ?_
        refine v_iadd dX2_orderHere_37 ?_
        refine v_iconst (v := 2) dX2_orderHere_38 (by decide) ?_
        replace hf := rv_e hf
        obtain ⟨w284, fs285, hh286, hf⟩ := hf
        obtain ⟨mc289, ms290, hkmc289, hnms290, hM⟩ := hf
        refine V.weak (k' := (((k - mc279) - mc289) + 0) + mc289) (n' := (((n - ms280) - ms290) + 0) + ms290) ?_ (by omega) (by omega)
        refine v_callV 2 dX2_orderHere_39 hM rfl hh286 rfl (lw_V q2758 q2760 qs76 q98 q2761) rfl (by decide +kernel) (by decide) rfl (cat_len (Nat.le_of_ble_eq_true rfl)) (kk_I fun i288 h287 hg => ?_) (fun _ _ _ hx => hx.elim)
        have hf := hg
        clear hg
        refine v_if_eq 49 dX2_orderHere_42 (by decide) (fun c293 => ?_) (fun c293 => ?_)
        · replace hf := hf.1 c293
          refine v_iconst (v := 0) dX2_orderHere_49 (by decide) ?_
          exact v_zret dX2_orderHere_50 rfl (by decide) ⟨_, rfl, hf⟩
        · replace hf := hf.2 c293
          refine v_iconst (v := 1) dX2_orderHere_45 (by decide) ?_
          refine v_goto 50 dX2_orderHere_46 (by decide) ?_
          exact v_zret dX2_orderHere_50 rfl (by decide) ⟨_, rfl, hf⟩
abbrev Y_X2_isText : Yt := (yX2_isText, some (.boolean), 7, 168, [])
def g_X2_isText_0 (G : Gt) (E : Ev) (h : Hp) (k n : Nat) (a0 : Nat) (K : Int32 → Hp → Prop) : Prop :=
pF h (some a0) 2 15 (.int (0 : Int32)) fun h3 =>
pF h3 (some a0) 2 17 (.int (0 : Int32)) fun h6 =>
V G E Y_X2_isText cX2_isText 1 (QM G E (kI K) xN) h6 k n 10 [(0, .ref a0)] []
theorem s_X2_isText_0 {G : Gt} {E : Ev} {h : Hp} {k0 n0 : Nat} {a0 : Nat} {K : Int32 → Hp → Prop} (hG : Base G) (hA : 0 ≤ k0) (hB : 0 ≤ n0) (hf : g_X2_isText_0 G E h (k0 - 0) (n0 - 0) a0 K) : V G E Y_X2_isText cX2_isText 1 (QM G E (kI K) xN) h k0 n0 0 [(0, .ref a0)] [] := by
  obtain ⟨k, hk9⟩ : ∃ z, z = k0 - 0 := ⟨_, rfl⟩
  obtain ⟨n, hn9⟩ : ∃ z, z = n0 - 0 := ⟨_, rfl⟩
  rw [← hk9, ← hn9] at hf
  refine V.weak (k' := k + 0) (n' := n + 0) ?_ (by omega) (by omega)
  unfold g_X2_isText_0 at hf
  refine v_aload_n (i := 0) dX2_isText_0 rfl rfl ?_
  refine v_iconst (v := 0) dX2_isText_1 (by decide) ?_
  replace hf := pF_e hf
  obtain ⟨fs1, hh2, hf⟩ := hf
  refine v_putf (v := .int (0 : Int32)) (T := TX2) (ci := 2) (ty := .int) 15 dX2_isText_2 q2503 rfl in_X2 tyX2 tyX2_ok nmX2 (Nat.le_of_ble_eq_true rfl) (Or.inl rfl) rfl (by decide +kernel) rfl rfl hh2 ?_
  obtain ⟨h3, eh3⟩ : ∃ z, z = hs h a0 (true, .inr (2, fs1.set 15 (.int (0 : Int32)))) := ⟨_, rfl⟩
  try rw [← eh3] at hf
  rw [← eh3]
  refine v_aload_n (i := 0) dX2_isText_5 rfl rfl ?_
  refine v_iconst (v := 0) dX2_isText_6 (by decide) ?_
  replace hf := pF_e hf
  obtain ⟨fs4, hh5, hf⟩ := hf
  refine v_putf (v := .int (0 : Int32)) (T := TX2) (ci := 2) (ty := .int) 17 dX2_isText_7 q2505 rfl in_X2 tyX2 tyX2_ok nmX2 (Nat.le_of_ble_eq_true rfl) (Or.inl rfl) rfl (by decide +kernel) rfl rfl hh5 ?_
  obtain ⟨h6, eh6⟩ : ∃ z, z = hs h3 a0 (true, .inr (2, fs4.set 17 (.int (0 : Int32)))) := ⟨_, rfl⟩
  try rw [← eh6] at hf
  rw [← eh6]
  exact V.weak hf (by omega) (by omega)
def g_X2_isText_10 (G : Gt) (E : Ev) (h : Hp) (k n : Nat) (a0 : Nat) (K : Int32 → Hp → Prop) : Prop :=
rv h (some a0) 2 (dI G Y_X2_orderHere cX2_orderHere 2 [va_rf (some a0)] h k n (fun i5 h4 k8 n9 =>
((¬ (i5 = 0) → gI h4 (some a0) 2 17 fun i11 =>
pF h4 (some a0) 2 17 (.int (i11 + (1 : Int32))) fun h18 =>
rv h18 (some a0) 2 (f_X2_skips G h18 (some a0) (59 : Int32) (fun i23 h22 =>
((¬ (i23 = 0) → V G E Y_X2_isText cX2_isText 1 (QM G E (kI K) xN) h22 k8 n9 10 [(0, .ref a0)] []) ∧
(i23 = 0 → gI h22 (some a0) 2 15 fun i25 =>
gI h22 (some a0) 2 10 fun i30 =>
((¬ (i25 = i30) → K (0 : Int32) h22) ∧
(i25 = i30 → K (1 : Int32) h22))))))) ∧
(i5 = 0 → K (0 : Int32) h4))) xN)
theorem s_X2_isText_10 {G : Gt} {E : Ev} {h : Hp} {k0 n0 : Nat} {a0 : Nat} {K : Int32 → Hp → Prop} (hG : Base G) (hA : 0 ≤ k0) (hB : 0 ≤ n0) (hf : g_X2_isText_10 G E h (k0 - 0) (n0 - 0) a0 K) : V G E Y_X2_isText cX2_isText 1 (QM G E (kI K) xN) h k0 n0 10 [(0, .ref a0)] [] := by
  obtain ⟨k, hk9⟩ : ∃ z, z = k0 - 0 := ⟨_, rfl⟩
  obtain ⟨n, hn9⟩ : ∃ z, z = n0 - 0 := ⟨_, rfl⟩
  rw [← hk9, ← hn9] at hf
  refine V.weak (k' := k + 0) (n' := n + 0) ?_ (by omega) (by omega)
  unfold g_X2_isText_10 at hf
  refine v_aload_n (i := 0) dX2_isText_10 rfl rfl ?_
  replace hf := rv_e hf
  obtain ⟨w1, fs2, hh3, hf⟩ := hf
  obtain ⟨mc6, ms7, hkmc6, hnms7, hM⟩ := hf
  refine V.weak (k' := ((k - mc6) + 0) + mc6) (n' := ((n - ms7) + 0) + ms7) ?_ (by omega) (by omega)
  refine v_callV 0 dX2_isText_11 hM rfl hh3 rfl (lw_V q2735 q2737 qs71 q98 q2738) rfl (by decide +kernel) (by decide) rfl (cat_len (Nat.le_of_ble_eq_true rfl)) (kk_I fun i5 h4 hg => ?_) (fun _ _ _ hx => hx.elim)
  have hf := hg
  clear hg
  refine v_if_ne 19 dX2_isText_14 (by decide) (fun c10 => ?_) (fun c10 => ?_)
  · replace hf := hf.1 c10
    refine v_aload_n (i := 0) dX2_isText_19 rfl rfl ?_
    refine v_dup dX2_isText_20 rfl ?_
    replace hf := gI_e hf
    obtain ⟨w12, fs13, i11, hh14, hk15, hf⟩ := hf
    refine v_getf (T := TX2) (ci := 2) 17 dX2_isText_21 q2505 rfl in_X2 (Nat.le_of_ble_eq_true rfl) (Or.inl rfl) hh14 hk15 ?_
    refine v_iconst (v := 1) dX2_isText_24 (by decide) ?_
    refine v_iadd dX2_isText_25 ?_
    replace hf := pF_e hf
    obtain ⟨fs16, hh17, hf⟩ := hf
    refine v_putf (v := .int (i11 + (1 : Int32))) (T := TX2) (ci := 2) (ty := .int) 17 dX2_isText_26 q2505 rfl in_X2 tyX2 tyX2_ok nmX2 (Nat.le_of_ble_eq_true rfl) (Or.inl rfl) rfl (by decide +kernel) rfl rfl hh17 ?_
    obtain ⟨h18, eh18⟩ : ∃ z, z = hs h4 a0 (true, .inr (2, fs16.set 17 (.int (i11 + (1 : Int32))))) := ⟨_, rfl⟩
    try rw [← eh18] at hf
    rw [← eh18]
    refine v_aload_n (i := 0) dX2_isText_29 rfl rfl ?_
    refine v_bipush (v := 59) dX2_isText_30 (by decide) ?_
    replace hf := rv_e hf
    obtain ⟨w19, fs20, hh21, hf⟩ := hf
    refine V.addK0 ?_
    refine V.addN0 ?_
    refine v_callV (mc := 0) (ms := 0) 1 dX2_isText_32 (m_X2_skips hG hf) rfl hh21 rfl (lw_V q2739 q2741 qs72 q98 q2742) rfl (by decide +kernel) (by decide) rfl (cat_len (Nat.le_of_ble_eq_true rfl)) (kk_I fun i23 h22 hg => ?_) (fun _ _ _ hx => hx.elim)
    replace hf := hg
    clear hg
    refine v_if_ne 10 dX2_isText_35 (by decide) (fun c24 => ?_) (fun c24 => ?_)
    · replace hf := hf.1 c24
      exact V.weak hf (by omega) (by omega)
    · replace hf := hf.2 c24
      refine v_aload_n (i := 0) dX2_isText_38 rfl rfl ?_
      replace hf := gI_e hf
      obtain ⟨w26, fs27, i25, hh28, hk29, hf⟩ := hf
      refine v_getf (T := TX2) (ci := 2) 15 dX2_isText_39 q2503 rfl in_X2 (Nat.le_of_ble_eq_true rfl) (Or.inl rfl) hh28 hk29 ?_
      refine v_aload_n (i := 0) dX2_isText_42 rfl rfl ?_
      replace hf := gI_e hf
      obtain ⟨w31, fs32, i30, hh33, hk34, hf⟩ := hf
      refine v_getf (T := TX2) (ci := 2) 10 dX2_isText_43 q2498 rfl in_X2 (Nat.le_of_ble_eq_true rfl) (Or.inl rfl) hh33 hk34 ?_
      refine v_icmp_ne 53 dX2_isText_46 (by decide) (fun c35 => ?_) (fun c35 => ?_)
      · replace hf := hf.1 c35
        refine v_iconst (v := 0) dX2_isText_53 (by decide) ?_
        exact v_zret dX2_isText_54 rfl (by decide) ⟨_, rfl, hf⟩
      · replace hf := hf.2 c35
        refine v_iconst (v := 1) dX2_isText_49 (by decide) ?_
        refine v_goto 54 dX2_isText_50 (by decide) ?_
        exact v_zret dX2_isText_54 rfl (by decide) ⟨_, rfl, hf⟩
  · replace hf := hf.2 c10
    refine v_iconst (v := 0) dX2_isText_17 (by decide) ?_
    exact v_zret dX2_isText_18 rfl (by decide) ⟨_, rfl, hf⟩
theorem b_X2_isText {G : Gt} {h : Hp} {mc ms : Nat} {a0 : Nat} {K : Int32 → Hp → Prop} (hG : Base G) (hf : ∀ E : Ev, V G E Y_X2_isText cX2_isText 1 (QM G E (kI K) xN) h mc ms 0 [(0, .ref a0)] []) : MM G Y_X2_isText cX2_isText 1 mc ms [.ref a0] h (kI K) xN := mm_of hG (by decide +kernel) rfl (ac_c rfl ac_nil) (Nat.le_of_ble_eq_true rfl) (fun E _ _ => hf E)
abbrev Y_X2_carries : Yt := (yX2_carries, some (.int), 4, 111, [])
def f_X2_carries (G : Gt) (h : Hp) (k n : Nat) (t_0 : Option Nat) (i_1 : Int32) (K : Int32 → Hp → Prop) : Prop :=
gR h t_0 2 16 fun r1 =>
aI h r1 0 (i_1 + (1 : Int32)) fun i12 =>
gR h t_0 2 16 fun r13 =>
aI h r13 0 i_1 fun i24 =>
((i24 = (0 : Int32) → rv h t_0 2 (dI G Y_X2_go cX2_go 5 [va_rf t_0, .int i12] h k n (fun i29 h28 k32 n33 =>
K i29 h28) xN)) ∧
(i24 = (1 : Int32) → rv h t_0 2 (dI G Y_X2_rest cX2_rest 2 [va_rf t_0, .int i12] h k n (fun i38 h37 k41 n42 =>
K i38 h37) xN)) ∧
(i24 = (2 : Int32) → rv h t_0 2 (dI G Y_X2_take cX2_take 3 [va_rf t_0, .int i12] h k n (fun i47 h46 k50 n51 =>
K i47 h46) xN)) ∧
(i24 = (3 : Int32) → rv h t_0 2 (dI G Y_X2_open cX2_open 3 [va_rf t_0, .int i12] h k n (fun i56 h55 k59 n60 =>
K i56 h55) xN)) ∧
(i24 = (4 : Int32) → gR h t_0 2 16 fun r61 =>
aI h r61 0 (i_1 + (2 : Int32)) fun i72 =>
rv h t_0 2 (dI G Y_X2_oil cX2_oil 3 [va_rf t_0, .int i12, .int i72] h k n (fun i77 h76 k80 n81 =>
K i77 h76) xN)) ∧
(i24 = (5 : Int32) → rv h t_0 2 (dI G Y_X2_room cX2_room 2 [va_rf t_0, .int i12] h k n (fun i86 h85 k89 n90 =>
K i86 h85) xN)) ∧
(i24 = (6 : Int32) → gR h t_0 2 16 fun r91 =>
aI h r91 0 (i_1 + (2 : Int32)) fun i102 =>
rv h t_0 2 (dI G Y_X2_key cX2_key 4 [va_rf t_0, .int i12, .int i102] h k n (fun i107 h106 k110 n111 =>
K i107 h106) xN)) ∧
(i24.toInt < 0 ∨ 6 < i24.toInt → gR h t_0 2 16 fun r112 =>
aI h r112 0 (i_1 + (2 : Int32)) fun i123 =>
gR h t_0 2 16 fun r124 =>
aI h r124 0 (i_1 + (3 : Int32)) fun i135 =>
gR h t_0 2 16 fun r136 =>
aI h r136 0 (i_1 + (4 : Int32)) fun i147 =>
rv h t_0 2 (dI G Y_X2_door cX2_door 6 [va_rf t_0, .int i12, .int i123, .int i135, .int i147] h k n (fun i152 h151 k155 n156 =>
K i152 h151) xN)))
theorem m_X2_carries {G : Gt} {h : Hp} {mc ms : Nat} {a0 : Nat} {i_1 : Int32} {K : Int32 → Hp → Prop} (hG : Base G) (hA : 0 ≤ mc) (hB : 0 ≤ ms) (hf : f_X2_carries G h (mc - 0) (ms - 0) (some a0) i_1 K) : MM G Y_X2_carries cX2_carries 3 mc ms [.ref a0, .int i_1] h (kI K) xN := by
  refine mm_of hG (by decide +kernel) rfl (ac_c rfl (ac_c rfl ac_nil)) (Nat.le_of_ble_eq_true rfl) (fun E _ _ => ?_)
  obtain ⟨k, hk9⟩ : ∃ z, z = mc - 0 := ⟨_, rfl⟩
  obtain ⟨n, hn9⟩ : ∃ z, z = ms - 0 := ⟨_, rfl⟩
  rw [← hk9, ← hn9] at hf
  refine V.weak (k' := k + 0) (n' := n + 0) ?_ (by omega) (by omega)
  show V G E Y_X2_carries cX2_carries 3 (QM G E (kI K) xN) h (k + 0) (n + 0) 0 [(0, .ref a0), (1, .int i_1)] []
  unfold f_X2_carries at hf
  refine v_qload_n (r := (some a0)) (i := 0) dX2_carries_0 rfl rfl ?_
  replace hf := gR_e hf
  obtain ⟨w2, fs3, r1, hh4, hk5, hf⟩ := hf
  refine v_getf (T := TX2) (ci := 2) 16 dX2_carries_1 q2504 rfl in_X2 (Nat.le_of_ble_eq_true rfl) (Or.inl rfl) hh4 hk5 ?_
  refine v_iload_n (i := 1) dX2_carries_4 rfl rfl ?_
  refine v_iconst (v := 1) dX2_carries_5 (by decide) ?_
  refine v_iadd dX2_carries_6 ?_
  obtain ⟨a6, rfl⟩ := aI_s hf
  replace hf := aI_e hf
  obtain ⟨w7, N8, f9, hh10, hi11, i12, ei12, hf⟩ := hf
  refine v_iald dX2_carries_7 hh10 hi11 ?_
  rw [← ei12]
  refine v_istore_n (i := 2) (lv' := [(0, va_rf (some a0)), (1, .int i_1), (2, .int i12)]) dX2_carries_8 rfl (Nat.le_of_ble_eq_true rfl) rfl rfl ?_
  refine v_qload_n (r := (some a0)) (i := 0) dX2_carries_9 rfl rfl ?_
  replace hf := gR_e hf
  obtain ⟨w14, fs15, r13, hh16, hk17, hf⟩ := hf
  refine v_getf (T := TX2) (ci := 2) 16 dX2_carries_10 q2504 rfl in_X2 (Nat.le_of_ble_eq_true rfl) (Or.inl rfl) hh16 hk17 ?_
  refine v_iload_n (i := 1) dX2_carries_13 rfl rfl ?_
  obtain ⟨a18, rfl⟩ := aI_s hf
  replace hf := aI_e hf
  obtain ⟨w19, N20, f21, hh22, hi23, i24, ei24, hf⟩ := hf
  refine v_iald dX2_carries_14 hh22 hi23 ?_
  rw [← ei24]
  have hx : i24.toInt = 0 ∨ i24.toInt = 1 ∨ i24.toInt = 2 ∨ i24.toInt = 3 ∨ i24.toInt = 4 ∨ i24.toInt = 5 ∨ i24.toInt = 6 ∨ (i24.toInt < 0 ∨ 6 < i24.toInt) := by omega
  rcases hx with hx | hx | hx | hx | hx | hx | hx | hx
  · have e9 : i24 = (0 : Int32) := Int32.toInt_inj.mp hx
    replace hf := hf.1 e9
    refine v_tableAt (v := (0 : Int32)) (off := 41) 56 dX2_carries_15 e9 (by decide) (by decide) (by decide) (by decide) ?_
    refine v_qload_n (r := (some a0)) (i := 0) dX2_carries_56 rfl rfl ?_
    refine v_iload_n (i := 2) dX2_carries_57 rfl rfl ?_
    replace hf := rv_e hf
    obtain ⟨w25, fs26, hh27, hf⟩ := hf
    obtain ⟨mc30, ms31, hkmc30, hnms31, hM⟩ := hf
    refine V.weak (k' := ((k - mc30) + 0) + mc30) (n' := ((n - ms31) + 0) + ms31) ?_ (by omega) (by omega)
    refine v_callV 1 dX2_carries_58 hM rfl hh27 rfl (lw_V q2781 q2599 q2600 q98 q2601) rfl (by decide +kernel) (by decide) rfl (cat_len (Nat.le_of_ble_eq_true rfl)) (kk_I fun i29 h28 hg => ?_) (fun _ _ _ hx => hx.elim)
    have hf := hg
    clear hg
    exact v_iret dX2_carries_61 rfl ⟨_, rfl, hf⟩
  · have e9 : i24 = (1 : Int32) := Int32.toInt_inj.mp hx
    replace hf := hf.2.1 e9
    refine v_tableAt (v := (1 : Int32)) (off := 47) 62 dX2_carries_15 e9 (by decide) (by decide) (by decide) (by decide) ?_
    refine v_qload_n (r := (some a0)) (i := 0) dX2_carries_62 rfl rfl ?_
    refine v_iload_n (i := 2) dX2_carries_63 rfl rfl ?_
    replace hf := rv_e hf
    obtain ⟨w34, fs35, hh36, hf⟩ := hf
    obtain ⟨mc39, ms40, hkmc39, hnms40, hM⟩ := hf
    refine V.weak (k' := ((k - mc39) + 0) + mc39) (n' := ((n - ms40) + 0) + ms40) ?_ (by omega) (by omega)
    refine v_callV 1 dX2_carries_64 hM rfl hh36 rfl (lw_V q2782 q2627 q2628 q98 q2629) rfl (by decide +kernel) (by decide) rfl (cat_len (Nat.le_of_ble_eq_true rfl)) (kk_I fun i38 h37 hg => ?_) (fun _ _ _ hx => hx.elim)
    have hf := hg
    clear hg
    exact v_iret dX2_carries_67 rfl ⟨_, rfl, hf⟩
  · have e9 : i24 = (2 : Int32) := Int32.toInt_inj.mp hx
    replace hf := hf.2.2.1 e9
    refine v_tableAt (v := (2 : Int32)) (off := 53) 68 dX2_carries_15 e9 (by decide) (by decide) (by decide) (by decide) ?_
    refine v_qload_n (r := (some a0)) (i := 0) dX2_carries_68 rfl rfl ?_
    refine v_iload_n (i := 2) dX2_carries_69 rfl rfl ?_
    replace hf := rv_e hf
    obtain ⟨w43, fs44, hh45, hf⟩ := hf
    obtain ⟨mc48, ms49, hkmc48, hnms49, hM⟩ := hf
    refine V.weak (k' := ((k - mc48) + 0) + mc48) (n' := ((n - ms49) + 0) + ms49) ?_ (by omega) (by omega)
    refine v_callV 1 dX2_carries_70 hM rfl hh45 rfl (lw_V q2783 q2631 q2632 q98 q2633) rfl (by decide +kernel) (by decide) rfl (cat_len (Nat.le_of_ble_eq_true rfl)) (kk_I fun i47 h46 hg => ?_) (fun _ _ _ hx => hx.elim)
    have hf := hg
    clear hg
    exact v_iret dX2_carries_73 rfl ⟨_, rfl, hf⟩
  · have e9 : i24 = (3 : Int32) := Int32.toInt_inj.mp hx
    replace hf := hf.2.2.2.1 e9
    refine v_tableAt (v := (3 : Int32)) (off := 59) 74 dX2_carries_15 e9 (by decide) (by decide) (by decide) (by decide) ?_
    refine v_qload_n (r := (some a0)) (i := 0) dX2_carries_74 rfl rfl ?_
    refine v_iload_n (i := 2) dX2_carries_75 rfl rfl ?_
    replace hf := rv_e hf
    obtain ⟨w52, fs53, hh54, hf⟩ := hf
    obtain ⟨mc57, ms58, hkmc57, hnms58, hM⟩ := hf
    refine V.weak (k' := ((k - mc57) + 0) + mc57) (n' := ((n - ms58) + 0) + ms58) ?_ (by omega) (by omega)
    refine v_callV 1 dX2_carries_76 hM rfl hh54 rfl (lw_V q2784 q2635 q2636 q98 q2637) rfl (by decide +kernel) (by decide) rfl (cat_len (Nat.le_of_ble_eq_true rfl)) (kk_I fun i56 h55 hg => ?_) (fun _ _ _ hx => hx.elim)
    have hf := hg
    clear hg
    exact v_iret dX2_carries_79 rfl ⟨_, rfl, hf⟩
  · have e9 : i24 = (4 : Int32) := Int32.toInt_inj.mp hx
    replace hf := hf.2.2.2.2.1 e9
    refine v_tableAt (v := (4 : Int32)) (off := 65) 80 dX2_carries_15 e9 (by decide) (by decide) (by decide) (by decide) ?_
    refine v_qload_n (r := (some a0)) (i := 0) dX2_carries_80 rfl rfl ?_
    refine v_iload_n (i := 2) dX2_carries_81 rfl rfl ?_
    refine v_qload_n (r := (some a0)) (i := 0) dX2_carries_82 rfl rfl ?_
    replace hf := gR_e hf
    obtain ⟨w62, fs63, r61, hh64, hk65, hf⟩ := hf
    refine v_getf (T := TX2) (ci := 2) 16 dX2_carries_83 q2504 rfl in_X2 (Nat.le_of_ble_eq_true rfl) (Or.inl rfl) hh64 hk65 ?_
    refine v_iload_n (i := 1) dX2_carries_86 rfl rfl ?_
    refine v_iconst (v := 2) dX2_carries_87 (by decide) ?_
    refine v_iadd dX2_carries_88 ?_
    obtain ⟨a66, rfl⟩ := aI_s hf
    replace hf := aI_e hf
    obtain ⟨w67, N68, f69, hh70, hi71, i72, ei72, hf⟩ := hf
    refine v_iald dX2_carries_89 hh70 hi71 ?_
    rw [← ei72]
    replace hf := rv_e hf
    obtain ⟨w73, fs74, hh75, hf⟩ := hf
    obtain ⟨mc78, ms79, hkmc78, hnms79, hM⟩ := hf
    refine V.weak (k' := ((k - mc78) + 0) + mc78) (n' := ((n - ms79) + 0) + ms79) ?_ (by omega) (by omega)
    refine v_callV 2 dX2_carries_90 hM rfl hh75 rfl (lw_V q2785 q2591 q2592 q98 q2593) rfl (by decide +kernel) (by decide) rfl (cat_len (Nat.le_of_ble_eq_true rfl)) (kk_I fun i77 h76 hg => ?_) (fun _ _ _ hx => hx.elim)
    have hf := hg
    clear hg
    exact v_iret dX2_carries_93 rfl ⟨_, rfl, hf⟩
  · have e9 : i24 = (5 : Int32) := Int32.toInt_inj.mp hx
    replace hf := hf.2.2.2.2.2.1 e9
    refine v_tableAt (v := (5 : Int32)) (off := 79) 94 dX2_carries_15 e9 (by decide) (by decide) (by decide) (by decide) ?_
    refine v_qload_n (r := (some a0)) (i := 0) dX2_carries_94 rfl rfl ?_
    refine v_iload_n (i := 2) dX2_carries_95 rfl rfl ?_
    replace hf := rv_e hf
    obtain ⟨w82, fs83, hh84, hf⟩ := hf
    obtain ⟨mc87, ms88, hkmc87, hnms88, hM⟩ := hf
    refine V.weak (k' := ((k - mc87) + 0) + mc87) (n' := ((n - ms88) + 0) + ms88) ?_ (by omega) (by omega)
    refine v_callV 1 dX2_carries_96 hM rfl hh84 rfl (lw_V q2786 q2544 q2545 q98 q2546) rfl (by decide +kernel) (by decide) rfl (cat_len (Nat.le_of_ble_eq_true rfl)) (kk_I fun i86 h85 hg => ?_) (fun _ _ _ hx => hx.elim)
    have hf := hg
    clear hg
    exact v_iret dX2_carries_99 rfl ⟨_, rfl, hf⟩
  · have e9 : i24 = (6 : Int32) := Int32.toInt_inj.mp hx
    replace hf := hf.2.2.2.2.2.2.1 e9
    refine v_tableAt (v := (6 : Int32)) (off := 85) 100 dX2_carries_15 e9 (by decide) (by decide) (by decide) (by decide) ?_
    refine v_qload_n (r := (some a0)) (i := 0) dX2_carries_100 rfl rfl ?_
    refine v_iload_n (i := 2) dX2_carries_101 rfl rfl ?_
    refine v_qload_n (r := (some a0)) (i := 0) dX2_carries_102 rfl rfl ?_
    replace hf := gR_e hf
    obtain ⟨w92, fs93, r91, hh94, hk95, hf⟩ := hf
    refine v_getf (T := TX2) (ci := 2) 16 dX2_carries_103 q2504 rfl in_X2 (Nat.le_of_ble_eq_true rfl) (Or.inl rfl) hh94 hk95 ?_
    refine v_iload_n (i := 1) dX2_carries_106 rfl rfl ?_
    refine v_iconst (v := 2) dX2_carries_107 (by decide) ?_
    refine v_iadd dX2_carries_108 ?_
    obtain ⟨a96, rfl⟩ := aI_s hf
    replace hf := aI_e hf
    obtain ⟨w97, N98, f99, hh100, hi101, i102, ei102, hf⟩ := hf
    refine v_iald dX2_carries_109 hh100 hi101 ?_
    rw [← ei102]
    replace hf := rv_e hf
    obtain ⟨w103, fs104, hh105, hf⟩ := hf
    obtain ⟨mc108, ms109, hkmc108, hnms109, hM⟩ := hf
    refine V.weak (k' := ((k - mc108) + 0) + mc108) (n' := ((n - ms109) + 0) + ms109) ?_ (by omega) (by omega)
    refine v_callV 2 dX2_carries_110 hM rfl hh105 rfl (lw_V q2787 q2584 q2585 q98 q2586) rfl (by decide +kernel) (by decide) rfl (cat_len (Nat.le_of_ble_eq_true rfl)) (kk_I fun i107 h106 hg => ?_) (fun _ _ _ hx => hx.elim)
    have hf := hg
    clear hg
    exact v_iret dX2_carries_113 rfl ⟨_, rfl, hf⟩
  · replace hf := hf.2.2.2.2.2.2.2 hx
    refine v_tableOut 114 dX2_carries_15 hx (by decide) ?_
    refine v_qload_n (r := (some a0)) (i := 0) dX2_carries_114 rfl rfl ?_
    refine v_iload_n (i := 2) dX2_carries_115 rfl rfl ?_
    refine v_qload_n (r := (some a0)) (i := 0) dX2_carries_116 rfl rfl ?_
    replace hf := gR_e hf
    obtain ⟨w113, fs114, r112, hh115, hk116, hf⟩ := hf
    refine v_getf (T := TX2) (ci := 2) 16 dX2_carries_117 q2504 rfl in_X2 (Nat.le_of_ble_eq_true rfl) (Or.inl rfl) hh115 hk116 ?_
    refine v_iload_n (i := 1) dX2_carries_120 rfl rfl ?_
    refine v_iconst (v := 2) dX2_carries_121 (by decide) ?_
    refine v_iadd dX2_carries_122 ?_
    obtain ⟨a117, rfl⟩ := aI_s hf
    replace hf := aI_e hf
    obtain ⟨w118, N119, f120, hh121, hi122, i123, ei123, hf⟩ := hf
    refine v_iald dX2_carries_123 hh121 hi122 ?_
    rw [← ei123]
    refine v_qload_n (r := (some a0)) (i := 0) dX2_carries_124 rfl rfl ?_
    replace hf := gR_e hf
    obtain ⟨w125, fs126, r124, hh127, hk128, hf⟩ := hf
    refine v_getf (T := TX2) (ci := 2) 16 dX2_carries_125 q2504 rfl in_X2 (Nat.le_of_ble_eq_true rfl) (Or.inl rfl) hh127 hk128 ?_
    refine v_iload_n (i := 1) dX2_carries_128 rfl rfl ?_
    refine v_iconst (v := 3) dX2_carries_129 (by decide) ?_
    refine v_iadd dX2_carries_130 ?_
    obtain ⟨a129, rfl⟩ := aI_s hf
    replace hf := aI_e hf
    obtain ⟨w130, N131, f132, hh133, hi134, i135, ei135, hf⟩ := hf
    refine v_iald dX2_carries_131 hh133 hi134 ?_
    rw [← ei135]
    refine v_qload_n (r := (some a0)) (i := 0) dX2_carries_132 rfl rfl ?_
    replace hf := gR_e hf
    obtain ⟨w137, fs138, r136, hh139, hk140, hf⟩ := hf
    refine v_getf (T := TX2) (ci := 2) 16 dX2_carries_133 q2504 rfl in_X2 (Nat.le_of_ble_eq_true rfl) (Or.inl rfl) hh139 hk140 ?_
    refine v_iload_n (i := 1) dX2_carries_136 rfl rfl ?_
    refine v_iconst (v := 4) dX2_carries_137 (by decide) ?_
    refine v_iadd dX2_carries_138 ?_
    obtain ⟨a141, rfl⟩ := aI_s hf
    replace hf := aI_e hf
    obtain ⟨w142, N143, f144, hh145, hi146, i147, ei147, hf⟩ := hf
    refine v_iald dX2_carries_139 hh145 hi146 ?_
    rw [← ei147]
    replace hf := rv_e hf
    obtain ⟨w148, fs149, hh150, hf⟩ := hf
    obtain ⟨mc153, ms154, hkmc153, hnms154, hM⟩ := hf
    refine V.weak (k' := ((k - mc153) + 0) + mc153) (n' := ((n - ms154) + 0) + ms154) ?_ (by omega) (by omega)
    refine v_callV 4 dX2_carries_140 hM rfl hh150 rfl (lw_V q2788 q2562 q2563 q98 q2564) rfl (by decide +kernel) (by decide) rfl (cat_len (Nat.le_of_ble_eq_true rfl)) (kk_I fun i152 h151 hg => ?_) (fun _ _ _ hx => hx.elim)
    have hf := hg
    clear hg
    exact v_iret dX2_carries_143 rfl ⟨_, rfl, hf⟩
abbrev Y_X2_run : Yt := (yX2_run, some (.int), 8, 188, [])
def g_X2_run_0 (G : Gt) (E : Ev) (h : Hp) (k n : Nat) (a0 : Nat) (K : Int32 → Hp → Prop) : Prop :=
rv h (some a0) 2 (dI G Y_X2_isText cX2_isText 1 [va_rf (some a0)] h k n (fun i5 h4 k8 n9 =>
pF h4 (some a0) 2 10 (.int (0 : Int32)) fun h12 =>
((¬ (i5 = 0) → gR h12 (some a0) 2 0 fun r14 =>
gR h12 (some a0) 2 3 fun r19 =>
dV G Y_X2_copies cX2_copies 5 [va_rf r14, .int (0 : Int32), va_rf r19, .int (0 : Int32)] h12 k8 n9 (fun h24 k27 n28 =>
((narrow .boolean (.int (1 : Int32)) = .int (1 : Int32) ∧ fits .boolean (.int (1 : Int32)) = true) ∧ pF h24 (some a0) 2 6 (.int (1 : Int32)) fun h31 =>
V G E Y_X2_run cX2_run 3 (QM G E (kI K) xN) h31 k27 n28 43 [(0, .ref a0), (2, .int (0 : Int32))] [])) xN) ∧
(i5 = 0 → gI h12 (some a0) 2 15 fun i32 =>
K ((-2000 : Int32) - i32) h12))) xN)
theorem s_X2_run_0 {G : Gt} {E : Ev} {h : Hp} {k0 n0 : Nat} {a0 : Nat} {K : Int32 → Hp → Prop} (hG : Base G) (hA : 0 ≤ k0) (hB : 0 ≤ n0) (hf : g_X2_run_0 G E h (k0 - 0) (n0 - 0) a0 K) : V G E Y_X2_run cX2_run 3 (QM G E (kI K) xN) h k0 n0 0 [(0, .ref a0)] [] := by
  obtain ⟨k, hk9⟩ : ∃ z, z = k0 - 0 := ⟨_, rfl⟩
  obtain ⟨n, hn9⟩ : ∃ z, z = n0 - 0 := ⟨_, rfl⟩
  rw [← hk9, ← hn9] at hf
  refine V.weak (k' := k + 0) (n' := n + 0) ?_ (by omega) (by omega)
  unfold g_X2_run_0 at hf
  refine v_aload_n (i := 0) dX2_run_0 rfl rfl ?_
  replace hf := rv_e hf
  obtain ⟨w1, fs2, hh3, hf⟩ := hf
  obtain ⟨mc6, ms7, hkmc6, hnms7, hM⟩ := hf
  refine V.weak (k' := ((k - mc6) + 0) + mc6) (n' := ((n - ms7) + 0) + ms7) ?_ (by omega) (by omega)
  refine v_callV 0 dX2_run_1 hM rfl hh3 rfl (lw_V q2731 q2733 qs70 q98 q2734) rfl (by decide +kernel) (by decide) rfl (cat_len (Nat.le_of_ble_eq_true rfl)) (kk_I fun i5 h4 hg => ?_) (fun _ _ _ hx => hx.elim)
  have hf := hg
  clear hg
  refine v_istore_n (i := 1) (lv' := [(0, .ref a0), (1, .int i5)]) dX2_run_4 rfl (Nat.le_of_ble_eq_true rfl) rfl rfl ?_
  refine v_aload_n (i := 0) dX2_run_5 rfl rfl ?_
  refine v_iconst (v := 0) dX2_run_6 (by decide) ?_
  replace hf := pF_e hf
  obtain ⟨fs10, hh11, hf⟩ := hf
  refine v_putf (v := .int (0 : Int32)) (T := TX2) (ci := 2) (ty := .int) 10 dX2_run_7 q2498 rfl in_X2 tyX2 tyX2_ok nmX2 (Nat.le_of_ble_eq_true rfl) (Or.inl rfl) rfl (by decide +kernel) rfl rfl hh11 ?_
  obtain ⟨h12, eh12⟩ : ∃ z, z = hs h4 a0 (true, .inr (2, fs10.set 10 (.int (0 : Int32)))) := ⟨_, rfl⟩
  try rw [← eh12] at hf
  rw [← eh12]
  refine v_iload_n (i := 1) dX2_run_10 rfl rfl ?_
  refine v_if_ne 23 dX2_run_11 (by decide) (fun c13 => ?_) (fun c13 => ?_)
  · replace hf := hf.1 c13
    refine v_aload_n (i := 0) dX2_run_23 rfl rfl ?_
    replace hf := gR_e hf
    obtain ⟨w15, fs16, r14, hh17, hk18, hf⟩ := hf
    refine v_getf (T := TX2) (ci := 2) 0 dX2_run_24 q2488 rfl in_X2 (Nat.le_of_ble_eq_true rfl) (Or.inl rfl) hh17 hk18 ?_
    refine v_iconst (v := 0) dX2_run_27 (by decide) ?_
    refine v_aload_n (i := 0) dX2_run_28 rfl rfl ?_
    replace hf := gR_e hf
    obtain ⟨w20, fs21, r19, hh22, hk23, hf⟩ := hf
    refine v_getf (T := TX2) (ci := 2) 3 dX2_run_29 q2491 rfl in_X2 (Nat.le_of_ble_eq_true rfl) (Or.inl rfl) hh22 hk23 ?_
    refine v_iconst (v := 0) dX2_run_32 (by decide) ?_
    obtain ⟨mc25, ms26, hkmc25, hnms26, hM⟩ := hf
    refine V.weak (k' := (((k - mc6) - mc25) + 0) + mc25) (n' := (((n - ms7) - ms26) + 0) + ms26) ?_ (by omega) (by omega)
    refine v_callS 4 dX2_run_33 hM rfl (lw_S q2558 q2559 q98 q2560) rfl (by decide +kernel) (by decide) rfl (cat_len (Nat.le_of_ble_eq_true rfl)) (kk_V fun h24 hg => ?_) (fun _ _ _ hx => hx.elim)
    have hf := hg
    clear hg
    refine v_aload_n (i := 0) dX2_run_36 rfl rfl ?_
    refine v_iconst (v := 1) dX2_run_37 (by decide) ?_
    obtain ⟨hnr, hf⟩ := hf
    replace hf := pF_e hf
    obtain ⟨fs29, hh30, hf⟩ := hf
    refine v_putf (v := .int (1 : Int32)) (T := TX2) (ci := 2) (ty := .boolean) 6 dX2_run_38 q2494 rfl in_X2 tyX2 tyX2_ok nmX2 (Nat.le_of_ble_eq_true rfl) (Or.inl rfl) rfl (by decide +kernel) hnr.1 hnr.2 hh30 ?_
    obtain ⟨h31, eh31⟩ : ∃ z, z = hs h24 a0 (true, .inr (2, fs29.set 6 (.int (1 : Int32)))) := ⟨_, rfl⟩
    try rw [← eh31] at hf
    rw [← eh31]
    refine v_iconst (v := 0) dX2_run_41 (by decide) ?_
    refine v_istore_n (i := 2) (lv' := [(0, .ref a0), (1, .int i5), (2, .int (0 : Int32))]) dX2_run_42 rfl (Nat.le_of_ble_eq_true rfl) rfl rfl ?_
    refine V.lp (lv' := [(0, .ref a0), (2, .int (0 : Int32))]) [0, 2] rfl ?_
    exact V.weak hf (by omega) (by omega)
  · replace hf := hf.2 c13
    refine v_sipush (v := -2000) dX2_run_14 (by decide) ?_
    refine v_aload_n (i := 0) dX2_run_17 rfl rfl ?_
    replace hf := gI_e hf
    obtain ⟨w33, fs34, i32, hh35, hk36, hf⟩ := hf
    refine v_getf (T := TX2) (ci := 2) 15 dX2_run_18 q2503 rfl in_X2 (Nat.le_of_ble_eq_true rfl) (Or.inl rfl) hh35 hk36 ?_
    refine v_isub dX2_run_21 ?_
    exact v_iret dX2_run_22 rfl ⟨_, rfl, hf⟩
def g_X2_run_43 (G : Gt) (E : Ev) (h : Hp) (k n : Nat) (a0 : Nat) (i_2 : Int32) (K : Int32 → Hp → Prop) : Prop :=
gI h (some a0) 2 17 fun i1 =>
((i1 ≤ i_2 → ((narrow .boolean (.int (0 : Int32)) = .int (0 : Int32) ∧ fits .boolean (.int (0 : Int32)) = true) ∧ pF h (some a0) 2 6 (.int (0 : Int32)) fun h9 =>
gI h9 (some a0) 2 17 fun i10 =>
((i10 ≤ i_2 → gR h9 (some a0) 2 3 fun r16 =>
rv h9 (some a0) 2 (dV G Y_X2_keeps cX2_keeps 3 [va_rf (some a0), va_rf r16] h9 k n (fun h24 k27 n28 =>
gI h24 (some a0) 2 17 fun i29 =>
K i29 h24) xN)) ∧
(¬ (i10 ≤ i_2) → gR h9 (some a0) 2 3 fun r34 =>
gR h9 (some a0) 2 0 fun r39 =>
dV G Y_X2_copies cX2_copies 5 [va_rf r34, .int (0 : Int32), va_rf r39, .int (0 : Int32)] h9 k n (fun h44 k47 n48 =>
rv h44 (some a0) 2 (f_X2_refuses G h44 (some a0) (12 : Int32) i_2 (fun i53 h52 =>
K i53 h52))) xN)))) ∧
(¬ (i1 ≤ i_2) → rv h (some a0) 2 (dI G Y_X2_carries cX2_carries 3 [va_rf (some a0), .int ((6 : Int32) * i_2)] h k n (fun i58 h57 k61 n62 =>
((i58 < 0 → ((narrow .boolean (.int (0 : Int32)) = .int (0 : Int32) ∧ fits .boolean (.int (0 : Int32)) = true) ∧ pF h57 (some a0) 2 6 (.int (0 : Int32)) fun h66 =>
gI h66 (some a0) 2 17 fun i67 =>
((i67 ≤ i_2 → gR h66 (some a0) 2 3 fun r73 =>
rv h66 (some a0) 2 (dV G Y_X2_keeps cX2_keeps 3 [va_rf (some a0), va_rf r73] h66 k61 n62 (fun h81 k84 n85 =>
gI h81 (some a0) 2 17 fun i86 =>
K i86 h81) xN)) ∧
(¬ (i67 ≤ i_2) → gR h66 (some a0) 2 3 fun r91 =>
gR h66 (some a0) 2 0 fun r96 =>
dV G Y_X2_copies cX2_copies 5 [va_rf r91, .int (0 : Int32), va_rf r96, .int (0 : Int32)] h66 k61 n62 (fun h101 k104 n105 =>
rv h101 (some a0) 2 (f_X2_refuses G h101 (some a0) (12 : Int32) i_2 (fun i110 h109 =>
K i110 h109))) xN)))) ∧
(¬ (i58 < 0) → V G E Y_X2_run cX2_run 3 (QM G E (kI K) xN) h57 k61 n62 43 [(0, .ref a0), (2, .int (i_2 + (1 : Int32)))] []))) xN)))
theorem s_X2_run_43 {G : Gt} {E : Ev} {h : Hp} {k0 n0 : Nat} {a0 : Nat} {i_2 : Int32} {K : Int32 → Hp → Prop} (hG : Base G) (hA : 0 ≤ k0) (hB : 0 ≤ n0) (hf : g_X2_run_43 G E h (k0 - 0) (n0 - 0) a0 i_2 K) : V G E Y_X2_run cX2_run 3 (QM G E (kI K) xN) h k0 n0 43 [(0, .ref a0), (2, .int i_2)] [] := by
  obtain ⟨k, hk9⟩ : ∃ z, z = k0 - 0 := ⟨_, rfl⟩
  obtain ⟨n, hn9⟩ : ∃ z, z = n0 - 0 := ⟨_, rfl⟩
  rw [← hk9, ← hn9] at hf
  refine V.weak (k' := k + 0) (n' := n + 0) ?_ (by omega) (by omega)
  unfold g_X2_run_43 at hf
  refine v_iload_n (i := 2) dX2_run_43 rfl rfl ?_
  refine v_aload_n (i := 0) dX2_run_44 rfl rfl ?_
  replace hf := gI_e hf
  obtain ⟨w2, fs3, i1, hh4, hk5, hf⟩ := hf
  refine v_getf (T := TX2) (ci := 2) 17 dX2_run_45 q2505 rfl in_X2 (Nat.le_of_ble_eq_true rfl) (Or.inl rfl) hh4 hk5 ?_
  refine v_icmp_ge 68 dX2_run_48 (by decide) (fun c6 => ?_) (fun c6 => ?_)
  · replace hf := hf.1 c6
    refine v_aload_n (i := 0) dX2_run_68 rfl rfl ?_
    refine v_iconst (v := 0) dX2_run_69 (by decide) ?_
    obtain ⟨hnr, hf⟩ := hf
    replace hf := pF_e hf
    obtain ⟨fs7, hh8, hf⟩ := hf
    refine v_putf (v := .int (0 : Int32)) (T := TX2) (ci := 2) (ty := .boolean) 6 dX2_run_70 q2494 rfl in_X2 tyX2 tyX2_ok nmX2 (Nat.le_of_ble_eq_true rfl) (Or.inl rfl) rfl (by decide +kernel) hnr.1 hnr.2 hh8 ?_
    obtain ⟨h9, eh9⟩ : ∃ z, z = hs h a0 (true, .inr (2, fs7.set 6 (.int (0 : Int32)))) := ⟨_, rfl⟩
    try rw [← eh9] at hf
    rw [← eh9]
    refine v_iload_n (i := 2) dX2_run_73 rfl rfl ?_
    refine v_aload_n (i := 0) dX2_run_74 rfl rfl ?_
    replace hf := gI_e hf
    obtain ⟨w11, fs12, i10, hh13, hk14, hf⟩ := hf
    refine v_getf (T := TX2) (ci := 2) 17 dX2_run_75 q2505 rfl in_X2 (Nat.le_of_ble_eq_true rfl) (Or.inl rfl) hh13 hk14 ?_
    refine v_icmp_ge 102 dX2_run_78 (by decide) (fun c15 => ?_) (fun c15 => ?_)
    · replace hf := hf.1 c15
      refine v_aload_n (i := 0) dX2_run_102 rfl rfl ?_
      refine v_aload_n (i := 0) dX2_run_103 rfl rfl ?_
      replace hf := gR_e hf
      obtain ⟨w17, fs18, r16, hh19, hk20, hf⟩ := hf
      refine v_getf (T := TX2) (ci := 2) 3 dX2_run_104 q2491 rfl in_X2 (Nat.le_of_ble_eq_true rfl) (Or.inl rfl) hh19 hk20 ?_
      replace hf := rv_e hf
      obtain ⟨w21, fs22, hh23, hf⟩ := hf
      obtain ⟨mc25, ms26, hkmc25, hnms26, hM⟩ := hf
      refine V.weak (k' := ((k - mc25) + 0) + mc25) (n' := ((n - ms26) + 0) + ms26) ?_ (by omega) (by omega)
      refine v_callV 1 dX2_run_107 hM rfl hh23 rfl (lw_V q2554 q2556 qs48 q98 q2557) rfl (by decide +kernel) (by decide) rfl (cat_len (Nat.le_of_ble_eq_true rfl)) (kk_V fun h24 hg => ?_) (fun _ _ _ hx => hx.elim)
      have hf := hg
      clear hg
      refine v_aload_n (i := 0) dX2_run_110 rfl rfl ?_
      replace hf := gI_e hf
      obtain ⟨w30, fs31, i29, hh32, hk33, hf⟩ := hf
      refine v_getf (T := TX2) (ci := 2) 17 dX2_run_111 q2505 rfl in_X2 (Nat.le_of_ble_eq_true rfl) (Or.inl rfl) hh32 hk33 ?_
      exact v_iret dX2_run_114 rfl ⟨_, rfl, hf⟩
    · replace hf := hf.2 c15
      refine v_aload_n (i := 0) dX2_run_81 rfl rfl ?_
      replace hf := gR_e hf
      obtain ⟨w35, fs36, r34, hh37, hk38, hf⟩ := hf
      refine v_getf (T := TX2) (ci := 2) 3 dX2_run_82 q2491 rfl in_X2 (Nat.le_of_ble_eq_true rfl) (Or.inl rfl) hh37 hk38 ?_
      refine v_iconst (v := 0) dX2_run_85 (by decide) ?_
      refine v_aload_n (i := 0) dX2_run_86 rfl rfl ?_
      replace hf := gR_e hf
      obtain ⟨w40, fs41, r39, hh42, hk43, hf⟩ := hf
      refine v_getf (T := TX2) (ci := 2) 0 dX2_run_87 q2488 rfl in_X2 (Nat.le_of_ble_eq_true rfl) (Or.inl rfl) hh42 hk43 ?_
      refine v_iconst (v := 0) dX2_run_90 (by decide) ?_
      obtain ⟨mc45, ms46, hkmc45, hnms46, hM⟩ := hf
      refine V.weak (k' := ((k - mc45) + 0) + mc45) (n' := ((n - ms46) + 0) + ms46) ?_ (by omega) (by omega)
      refine v_callS 4 dX2_run_91 hM rfl (lw_S q2558 q2559 q98 q2560) rfl (by decide +kernel) (by decide) rfl (cat_len (Nat.le_of_ble_eq_true rfl)) (kk_V fun h44 hg => ?_) (fun _ _ _ hx => hx.elim)
      have hf := hg
      clear hg
      refine v_aload_n (i := 0) dX2_run_94 rfl rfl ?_
      refine v_bipush (v := 12) dX2_run_95 (by decide) ?_
      refine v_iload_n (i := 2) dX2_run_97 rfl rfl ?_
      replace hf := rv_e hf
      obtain ⟨w49, fs50, hh51, hf⟩ := hf
      refine V.addK0 ?_
      refine V.addN0 ?_
      refine v_callV (mc := 0) (ms := 0) 2 dX2_run_98 (m_X2_refuses hG hf) rfl hh51 rfl (lw_V q2550 q2552 qs47 q98 q2553) rfl (by decide +kernel) (by decide) rfl (cat_len (Nat.le_of_ble_eq_true rfl)) (kk_I fun i53 h52 hg => ?_) (fun _ _ _ hx => hx.elim)
      replace hf := hg
      clear hg
      exact v_iret dX2_run_101 rfl ⟨_, rfl, hf⟩
  · replace hf := hf.2 c6
    refine v_aload_n (i := 0) dX2_run_51 rfl rfl ?_
    refine v_bipush (v := 6) dX2_run_52 (by decide) ?_
    refine v_iload_n (i := 2) dX2_run_54 rfl rfl ?_
    refine v_imul dX2_run_55 ?_
    replace hf := rv_e hf
    obtain ⟨w54, fs55, hh56, hf⟩ := hf
    obtain ⟨mc59, ms60, hkmc59, hnms60, hM⟩ := hf
    refine V.weak (k' := ((k - mc59) + 0) + mc59) (n' := ((n - ms60) + 0) + ms60) ?_ (by omega) (by omega)
    refine v_callV 1 dX2_run_56 hM rfl hh56 rfl (lw_V q2777 q2779 qs79 q98 q2780) rfl (by decide +kernel) (by decide) rfl (cat_len (Nat.le_of_ble_eq_true rfl)) (kk_I fun i58 h57 hg => ?_) (fun _ _ _ hx => hx.elim)
    have hf := hg
    clear hg
    refine v_if_lt 68 dX2_run_59 (by decide) (fun c63 => ?_) (fun c63 => ?_)
    · replace hf := hf.1 c63
      refine v_aload_n (i := 0) dX2_run_68 rfl rfl ?_
      refine v_iconst (v := 0) dX2_run_69 (by decide) ?_
      obtain ⟨hnr, hf⟩ := hf
      replace hf := pF_e hf
      obtain ⟨fs64, hh65, hf⟩ := hf
      refine v_putf (v := .int (0 : Int32)) (T := TX2) (ci := 2) (ty := .boolean) 6 dX2_run_70 q2494 rfl in_X2 tyX2 tyX2_ok nmX2 (Nat.le_of_ble_eq_true rfl) (Or.inl rfl) rfl (by decide +kernel) hnr.1 hnr.2 hh65 ?_
      obtain ⟨h66, eh66⟩ : ∃ z, z = hs h57 a0 (true, .inr (2, fs64.set 6 (.int (0 : Int32)))) := ⟨_, rfl⟩
      try rw [← eh66] at hf
      rw [← eh66]
      refine v_iload_n (i := 2) dX2_run_73 rfl rfl ?_
      refine v_aload_n (i := 0) dX2_run_74 rfl rfl ?_
      replace hf := gI_e hf
      obtain ⟨w68, fs69, i67, hh70, hk71, hf⟩ := hf
      refine v_getf (T := TX2) (ci := 2) 17 dX2_run_75 q2505 rfl in_X2 (Nat.le_of_ble_eq_true rfl) (Or.inl rfl) hh70 hk71 ?_
      refine v_icmp_ge 102 dX2_run_78 (by decide) (fun c72 => ?_) (fun c72 => ?_)
      · replace hf := hf.1 c72
        refine v_aload_n (i := 0) dX2_run_102 rfl rfl ?_
        refine v_aload_n (i := 0) dX2_run_103 rfl rfl ?_
        replace hf := gR_e hf
        obtain ⟨w74, fs75, r73, hh76, hk77, hf⟩ := hf
        refine v_getf (T := TX2) (ci := 2) 3 dX2_run_104 q2491 rfl in_X2 (Nat.le_of_ble_eq_true rfl) (Or.inl rfl) hh76 hk77 ?_
        replace hf := rv_e hf
        obtain ⟨w78, fs79, hh80, hf⟩ := hf
        obtain ⟨mc82, ms83, hkmc82, hnms83, hM⟩ := hf
        refine V.weak (k' := (((k - mc59) - mc82) + 0) + mc82) (n' := (((n - ms60) - ms83) + 0) + ms83) ?_ (by omega) (by omega)
        refine v_callV 1 dX2_run_107 hM rfl hh80 rfl (lw_V q2554 q2556 qs48 q98 q2557) rfl (by decide +kernel) (by decide) rfl (cat_len (Nat.le_of_ble_eq_true rfl)) (kk_V fun h81 hg => ?_) (fun _ _ _ hx => hx.elim)
        have hf := hg
        clear hg
        refine v_aload_n (i := 0) dX2_run_110 rfl rfl ?_
        replace hf := gI_e hf
        obtain ⟨w87, fs88, i86, hh89, hk90, hf⟩ := hf
        refine v_getf (T := TX2) (ci := 2) 17 dX2_run_111 q2505 rfl in_X2 (Nat.le_of_ble_eq_true rfl) (Or.inl rfl) hh89 hk90 ?_
        exact v_iret dX2_run_114 rfl ⟨_, rfl, hf⟩
      · replace hf := hf.2 c72
        refine v_aload_n (i := 0) dX2_run_81 rfl rfl ?_
        replace hf := gR_e hf
        obtain ⟨w92, fs93, r91, hh94, hk95, hf⟩ := hf
        refine v_getf (T := TX2) (ci := 2) 3 dX2_run_82 q2491 rfl in_X2 (Nat.le_of_ble_eq_true rfl) (Or.inl rfl) hh94 hk95 ?_
        refine v_iconst (v := 0) dX2_run_85 (by decide) ?_
        refine v_aload_n (i := 0) dX2_run_86 rfl rfl ?_
        replace hf := gR_e hf
        obtain ⟨w97, fs98, r96, hh99, hk100, hf⟩ := hf
        refine v_getf (T := TX2) (ci := 2) 0 dX2_run_87 q2488 rfl in_X2 (Nat.le_of_ble_eq_true rfl) (Or.inl rfl) hh99 hk100 ?_
        refine v_iconst (v := 0) dX2_run_90 (by decide) ?_
        obtain ⟨mc102, ms103, hkmc102, hnms103, hM⟩ := hf
        refine V.weak (k' := (((k - mc59) - mc102) + 0) + mc102) (n' := (((n - ms60) - ms103) + 0) + ms103) ?_ (by omega) (by omega)
        refine v_callS 4 dX2_run_91 hM rfl (lw_S q2558 q2559 q98 q2560) rfl (by decide +kernel) (by decide) rfl (cat_len (Nat.le_of_ble_eq_true rfl)) (kk_V fun h101 hg => ?_) (fun _ _ _ hx => hx.elim)
        have hf := hg
        clear hg
        refine v_aload_n (i := 0) dX2_run_94 rfl rfl ?_
        refine v_bipush (v := 12) dX2_run_95 (by decide) ?_
        refine v_iload_n (i := 2) dX2_run_97 rfl rfl ?_
        replace hf := rv_e hf
        obtain ⟨w106, fs107, hh108, hf⟩ := hf
        refine V.addK0 ?_
        refine V.addN0 ?_
        refine v_callV (mc := 0) (ms := 0) 2 dX2_run_98 (m_X2_refuses hG hf) rfl hh108 rfl (lw_V q2550 q2552 qs47 q98 q2553) rfl (by decide +kernel) (by decide) rfl (cat_len (Nat.le_of_ble_eq_true rfl)) (kk_I fun i110 h109 hg => ?_) (fun _ _ _ hx => hx.elim)
        replace hf := hg
        clear hg
        exact v_iret dX2_run_101 rfl ⟨_, rfl, hf⟩
    · replace hf := hf.2 c63
      refine v_iinc (i := 2) (v := i_2 + (1 : Int32)) (lv' := [(0, .ref a0), (2, .int (i_2 + (1 : Int32)))]) dX2_run_62 rfl rfl (Nat.le_of_ble_eq_true rfl) rfl rfl ?_
      refine v_goto 43 dX2_run_65 (by decide) ?_
      exact V.weak hf (by omega) (by omega)
theorem b_X2_run {G : Gt} {h : Hp} {mc ms : Nat} {a0 : Nat} {K : Int32 → Hp → Prop} (hG : Base G) (hf : ∀ E : Ev, V G E Y_X2_run cX2_run 3 (QM G E (kI K) xN) h mc ms 0 [(0, .ref a0)] []) : MM G Y_X2_run cX2_run 3 mc ms [.ref a0] h (kI K) xN := mm_of hG (by decide +kernel) rfl (ac_c rfl ac_nil) (Nat.le_of_ble_eq_true rfl) (fun E _ _ => hf E)
abbrev Y_X2_tellDoor : Yt := (yX2_tellDoor, some (.int), 3, 83, [])
def f_X2_tellDoor (G : Gt) (h : Hp) (t_0 : Option Nat) (i_1 : Int32) (K : Int32 → Hp → Prop) : Prop :=
rv h t_0 2 (f_X2_isDoor G h t_0 i_1 (fun i5 h4 =>
((¬ (i5 = 0) → pF h4 t_0 2 12 (.int (0 : Int32)) fun h9 =>
rv h9 t_0 2 (f_X2_writesNumber G h9 t_0 i_1 (fun h13 =>
rv h13 t_0 2 (f_X2_writes G h13 t_0 (58 : Int32) (fun h17 =>
rv h17 t_0 2 (f_X2_of G h17 t_0 i_1 (0 : Int32) (fun i22 h21 =>
rv h21 t_0 2 (f_X2_writesNumber G h21 t_0 i22 (fun h26 =>
rv h26 t_0 2 (f_X2_of G h26 t_0 i_1 (2 : Int32) (fun i31 h30 =>
((¬ (i31 = 0) → rv h30 t_0 2 (f_X2_of G h30 t_0 i_1 (2 : Int32) (fun i37 h36 =>
((¬ (i37 = (1 : Int32)) → rv h36 t_0 2 (f_X2_writes G h36 t_0 (101 : Int32) (fun h42 =>
rv h42 t_0 2 (f_X2_of G h42 t_0 i_1 (1 : Int32) (fun i47 h46 =>
rv h46 t_0 2 (f_X2_writesNumber G h46 t_0 i47 (fun h51 =>
rv h51 t_0 2 (f_X2_of G h51 t_0 i_1 (4 : Int32) (fun i56 h55 =>
((¬ (i56 = 0) → rv h55 t_0 2 (f_X2_writes G h55 t_0 (33 : Int32) (fun h61 =>
rv h61 t_0 2 (f_X2_of G h61 t_0 i_1 (3 : Int32) (fun i66 h65 =>
rv h65 t_0 2 (f_X2_writes G h65 t_0 ((97 : Int32) + i66) (fun h70 =>
gI h70 t_0 2 12 fun i71 =>
K i71 h70))))))) ∧
(i56 = 0 → gI h55 t_0 2 12 fun i76 =>
K i76 h55))))))))))) ∧
(i37 = (1 : Int32) → rv h36 t_0 2 (f_X2_writes G h36 t_0 (111 : Int32) (fun h84 =>
rv h84 t_0 2 (f_X2_of G h84 t_0 i_1 (1 : Int32) (fun i89 h88 =>
rv h88 t_0 2 (f_X2_writesNumber G h88 t_0 i89 (fun h93 =>
rv h93 t_0 2 (f_X2_of G h93 t_0 i_1 (4 : Int32) (fun i98 h97 =>
((¬ (i98 = 0) → rv h97 t_0 2 (f_X2_writes G h97 t_0 (33 : Int32) (fun h103 =>
rv h103 t_0 2 (f_X2_of G h103 t_0 i_1 (3 : Int32) (fun i108 h107 =>
rv h107 t_0 2 (f_X2_writes G h107 t_0 ((97 : Int32) + i108) (fun h112 =>
gI h112 t_0 2 12 fun i113 =>
K i113 h112))))))) ∧
(i98 = 0 → gI h97 t_0 2 12 fun i118 =>
K i118 h97))))))))))))))) ∧
(i31 = 0 → rv h30 t_0 2 (f_X2_writes G h30 t_0 (45 : Int32) (fun h126 =>
rv h126 t_0 2 (f_X2_of G h126 t_0 i_1 (1 : Int32) (fun i131 h130 =>
rv h130 t_0 2 (f_X2_writesNumber G h130 t_0 i131 (fun h135 =>
rv h135 t_0 2 (f_X2_of G h135 t_0 i_1 (4 : Int32) (fun i140 h139 =>
((¬ (i140 = 0) → rv h139 t_0 2 (f_X2_writes G h139 t_0 (33 : Int32) (fun h145 =>
rv h145 t_0 2 (f_X2_of G h145 t_0 i_1 (3 : Int32) (fun i150 h149 =>
rv h149 t_0 2 (f_X2_writes G h149 t_0 ((97 : Int32) + i150) (fun h154 =>
gI h154 t_0 2 12 fun i155 =>
K i155 h154))))))) ∧
(i140 = 0 → gI h139 t_0 2 12 fun i160 =>
K i160 h139))))))))))))))))))))))) ∧
(i5 = 0 → K (-1011 : Int32) h4))))
theorem m_X2_tellDoor {G : Gt} {h : Hp} {a0 : Nat} {i_1 : Int32} {K : Int32 → Hp → Prop} (hG : Base G) (hf : f_X2_tellDoor G h (some a0) i_1 K) : MM G Y_X2_tellDoor cX2_tellDoor 2 0 0 [.ref a0, .int i_1] h (kI K) xN := by
  refine mm_of hG (by decide +kernel) rfl (ac_c rfl (ac_c rfl ac_nil)) (Nat.le_of_ble_eq_true rfl) (fun E _ _ => ?_)
  show V G E Y_X2_tellDoor cX2_tellDoor 2 (QM G E (kI K) xN) h 0 0 0 [(0, .ref a0), (1, .int i_1)] []
  unfold f_X2_tellDoor at hf
  refine v_qload_n (r := (some a0)) (i := 0) dX2_tellDoor_0 rfl rfl ?_
  refine v_iload_n (i := 1) dX2_tellDoor_1 rfl rfl ?_
  replace hf := rv_e hf
  obtain ⟨w1, fs2, hh3, hf⟩ := hf
  refine V.addK0 ?_
  refine V.addN0 ?_
  refine v_callV (mc := 0) (ms := 0) 1 dX2_tellDoor_2 (m_X2_isDoor hG hf) rfl hh3 rfl (lw_V q2602 q2604 qs53 q98 q2605) rfl (by decide +kernel) (by decide) rfl (cat_len (Nat.le_of_ble_eq_true rfl)) (kk_I fun i5 h4 hg => ?_) (fun _ _ _ hx => hx.elim)
  replace hf := hg
  clear hg
  refine v_if_ne 12 dX2_tellDoor_5 (by decide) (fun c6 => ?_) (fun c6 => ?_)
  · replace hf := hf.1 c6
    refine v_qload_n (r := (some a0)) (i := 0) dX2_tellDoor_12 rfl rfl ?_
    refine v_iconst (v := 0) dX2_tellDoor_13 (by decide) ?_
    replace hf := pF_e hf
    obtain ⟨fs7, hh8, hf⟩ := hf
    refine v_putf (v := .int (0 : Int32)) (T := TX2) (ci := 2) (ty := .int) 12 dX2_tellDoor_14 q2500 rfl in_X2 tyX2 tyX2_ok nmX2 (Nat.le_of_ble_eq_true rfl) (Or.inl rfl) rfl (by decide +kernel) rfl rfl hh8 ?_
    obtain ⟨h9, eh9⟩ : ∃ z, z = hs h4 a0 (true, .inr (2, fs7.set 12 (.int (0 : Int32)))) := ⟨_, rfl⟩
    try rw [← eh9] at hf
    rw [← eh9]
    refine v_qload_n (r := (some a0)) (i := 0) dX2_tellDoor_17 rfl rfl ?_
    refine v_iload_n (i := 1) dX2_tellDoor_18 rfl rfl ?_
    replace hf := rv_e hf
    obtain ⟨w10, fs11, hh12, hf⟩ := hf
    refine V.addK0 ?_
    refine V.addN0 ?_
    refine v_callV (mc := 0) (ms := 0) 1 dX2_tellDoor_19 (m_X2_writesNumber hG hf) rfl hh12 rfl (lw_V q2793 q2795 qs80 q98 q2796) rfl (by decide +kernel) (by decide) rfl (cat_len (Nat.le_of_ble_eq_true rfl)) (kk_V fun h13 hg => ?_) (fun _ _ _ hx => hx.elim)
    replace hf := hg
    clear hg
    refine v_qload_n (r := (some a0)) (i := 0) dX2_tellDoor_22 rfl rfl ?_
    refine v_bipush (v := 58) dX2_tellDoor_23 (by decide) ?_
    replace hf := rv_e hf
    obtain ⟨w14, fs15, hh16, hf⟩ := hf
    refine V.addK0 ?_
    refine V.addN0 ?_
    refine v_callV (mc := 0) (ms := 0) 1 dX2_tellDoor_25 (m_X2_writes hG hf) rfl hh16 rfl (lw_V q2797 q2799 qs81 q98 q2800) rfl (by decide +kernel) (by decide) rfl (cat_len (Nat.le_of_ble_eq_true rfl)) (kk_V fun h17 hg => ?_) (fun _ _ _ hx => hx.elim)
    replace hf := hg
    clear hg
    refine v_qload_n (r := (some a0)) (i := 0) dX2_tellDoor_28 rfl rfl ?_
    refine v_qload_n (r := (some a0)) (i := 0) dX2_tellDoor_29 rfl rfl ?_
    refine v_iload_n (i := 1) dX2_tellDoor_30 rfl rfl ?_
    refine v_iconst (v := 0) dX2_tellDoor_31 (by decide) ?_
    replace hf := rv_e hf
    obtain ⟨w18, fs19, hh20, hf⟩ := hf
    refine V.addK0 ?_
    refine V.addN0 ?_
    refine v_callV (mc := 0) (ms := 0) 2 dX2_tellDoor_32 (m_X2_of hG hf) rfl hh20 rfl (lw_V q2573 q2575 qs51 q98 q2576) rfl (by decide +kernel) (by decide) rfl (cat_len (Nat.le_of_ble_eq_true rfl)) (kk_I fun i22 h21 hg => ?_) (fun _ _ _ hx => hx.elim)
    replace hf := hg
    clear hg
    replace hf := rv_e hf
    obtain ⟨w23, fs24, hh25, hf⟩ := hf
    refine V.addK0 ?_
    refine V.addN0 ?_
    refine v_callV (mc := 0) (ms := 0) 1 dX2_tellDoor_35 (m_X2_writesNumber hG hf) rfl hh25 rfl (lw_V q2793 q2795 qs80 q98 q2796) rfl (by decide +kernel) (by decide) rfl (cat_len (Nat.le_of_ble_eq_true rfl)) (kk_V fun h26 hg => ?_) (fun _ _ _ hx => hx.elim)
    replace hf := hg
    clear hg
    refine v_qload_n (r := (some a0)) (i := 0) dX2_tellDoor_38 rfl rfl ?_
    refine v_qload_n (r := (some a0)) (i := 0) dX2_tellDoor_39 rfl rfl ?_
    refine v_iload_n (i := 1) dX2_tellDoor_40 rfl rfl ?_
    refine v_iconst (v := 2) dX2_tellDoor_41 (by decide) ?_
    replace hf := rv_e hf
    obtain ⟨w27, fs28, hh29, hf⟩ := hf
    refine V.addK0 ?_
    refine V.addN0 ?_
    refine v_callV (mc := 0) (ms := 0) 2 dX2_tellDoor_42 (m_X2_of hG hf) rfl hh29 rfl (lw_V q2573 q2575 qs51 q98 q2576) rfl (by decide +kernel) (by decide) rfl (cat_len (Nat.le_of_ble_eq_true rfl)) (kk_I fun i31 h30 hg => ?_) (fun _ _ _ hx => hx.elim)
    replace hf := hg
    clear hg
    refine v_if_ne 53 dX2_tellDoor_45 (by decide) (fun c32 => ?_) (fun c32 => ?_)
    · replace hf := hf.1 c32
      refine v_qload_n (r := (some a0)) (i := 0) dX2_tellDoor_53 rfl rfl ?_
      refine v_iload_n (i := 1) dX2_tellDoor_54 rfl rfl ?_
      refine v_iconst (v := 2) dX2_tellDoor_55 (by decide) ?_
      replace hf := rv_e hf
      obtain ⟨w33, fs34, hh35, hf⟩ := hf
      refine V.addK0 ?_
      refine V.addN0 ?_
      refine v_callV (mc := 0) (ms := 0) 2 dX2_tellDoor_56 (m_X2_of hG hf) rfl hh35 rfl (lw_V q2573 q2575 qs51 q98 q2576) rfl (by decide +kernel) (by decide) rfl (cat_len (Nat.le_of_ble_eq_true rfl)) (kk_I fun i37 h36 hg => ?_) (fun _ _ _ hx => hx.elim)
      replace hf := hg
      clear hg
      refine v_iconst (v := 1) dX2_tellDoor_59 (by decide) ?_
      refine v_icmp_ne 68 dX2_tellDoor_60 (by decide) (fun c38 => ?_) (fun c38 => ?_)
      · replace hf := hf.1 c38
        refine v_bipush (v := 101) dX2_tellDoor_68 (by decide) ?_
        replace hf := rv_e hf
        obtain ⟨w39, fs40, hh41, hf⟩ := hf
        refine V.addK0 ?_
        refine V.addN0 ?_
        refine v_callV (mc := 0) (ms := 0) 1 dX2_tellDoor_70 (m_X2_writes hG hf) rfl hh41 rfl (lw_V q2797 q2799 qs81 q98 q2800) rfl (by decide +kernel) (by decide) rfl (cat_len (Nat.le_of_ble_eq_true rfl)) (kk_V fun h42 hg => ?_) (fun _ _ _ hx => hx.elim)
        replace hf := hg
        clear hg
        refine v_qload_n (r := (some a0)) (i := 0) dX2_tellDoor_73 rfl rfl ?_
        refine v_qload_n (r := (some a0)) (i := 0) dX2_tellDoor_74 rfl rfl ?_
        refine v_iload_n (i := 1) dX2_tellDoor_75 rfl rfl ?_
        refine v_iconst (v := 1) dX2_tellDoor_76 (by decide) ?_
        replace hf := rv_e hf
        obtain ⟨w43, fs44, hh45, hf⟩ := hf
        refine V.addK0 ?_
        refine V.addN0 ?_
        refine v_callV (mc := 0) (ms := 0) 2 dX2_tellDoor_77 (m_X2_of hG hf) rfl hh45 rfl (lw_V q2573 q2575 qs51 q98 q2576) rfl (by decide +kernel) (by decide) rfl (cat_len (Nat.le_of_ble_eq_true rfl)) (kk_I fun i47 h46 hg => ?_) (fun _ _ _ hx => hx.elim)
        replace hf := hg
        clear hg
        replace hf := rv_e hf
        obtain ⟨w48, fs49, hh50, hf⟩ := hf
        refine V.addK0 ?_
        refine V.addN0 ?_
        refine v_callV (mc := 0) (ms := 0) 1 dX2_tellDoor_80 (m_X2_writesNumber hG hf) rfl hh50 rfl (lw_V q2793 q2795 qs80 q98 q2796) rfl (by decide +kernel) (by decide) rfl (cat_len (Nat.le_of_ble_eq_true rfl)) (kk_V fun h51 hg => ?_) (fun _ _ _ hx => hx.elim)
        replace hf := hg
        clear hg
        refine v_qload_n (r := (some a0)) (i := 0) dX2_tellDoor_83 rfl rfl ?_
        refine v_iload_n (i := 1) dX2_tellDoor_84 rfl rfl ?_
        refine v_iconst (v := 4) dX2_tellDoor_85 (by decide) ?_
        replace hf := rv_e hf
        obtain ⟨w52, fs53, hh54, hf⟩ := hf
        refine V.addK0 ?_
        refine V.addN0 ?_
        refine v_callV (mc := 0) (ms := 0) 2 dX2_tellDoor_86 (m_X2_of hG hf) rfl hh54 rfl (lw_V q2573 q2575 qs51 q98 q2576) rfl (by decide +kernel) (by decide) rfl (cat_len (Nat.le_of_ble_eq_true rfl)) (kk_I fun i56 h55 hg => ?_) (fun _ _ _ hx => hx.elim)
        replace hf := hg
        clear hg
        refine v_if_ne 97 dX2_tellDoor_89 (by decide) (fun c57 => ?_) (fun c57 => ?_)
        · replace hf := hf.1 c57
          refine v_qload_n (r := (some a0)) (i := 0) dX2_tellDoor_97 rfl rfl ?_
          refine v_bipush (v := 33) dX2_tellDoor_98 (by decide) ?_
          replace hf := rv_e hf
          obtain ⟨w58, fs59, hh60, hf⟩ := hf
          refine V.addK0 ?_
          refine V.addN0 ?_
          refine v_callV (mc := 0) (ms := 0) 1 dX2_tellDoor_100 (m_X2_writes hG hf) rfl hh60 rfl (lw_V q2797 q2799 qs81 q98 q2800) rfl (by decide +kernel) (by decide) rfl (cat_len (Nat.le_of_ble_eq_true rfl)) (kk_V fun h61 hg => ?_) (fun _ _ _ hx => hx.elim)
          replace hf := hg
          clear hg
          refine v_qload_n (r := (some a0)) (i := 0) dX2_tellDoor_103 rfl rfl ?_
          refine v_bipush (v := 97) dX2_tellDoor_104 (by decide) ?_
          refine v_qload_n (r := (some a0)) (i := 0) dX2_tellDoor_106 rfl rfl ?_
          refine v_iload_n (i := 1) dX2_tellDoor_107 rfl rfl ?_
          refine v_iconst (v := 3) dX2_tellDoor_108 (by decide) ?_
          replace hf := rv_e hf
          obtain ⟨w62, fs63, hh64, hf⟩ := hf
          refine V.addK0 ?_
          refine V.addN0 ?_
          refine v_callV (mc := 0) (ms := 0) 2 dX2_tellDoor_109 (m_X2_of hG hf) rfl hh64 rfl (lw_V q2573 q2575 qs51 q98 q2576) rfl (by decide +kernel) (by decide) rfl (cat_len (Nat.le_of_ble_eq_true rfl)) (kk_I fun i66 h65 hg => ?_) (fun _ _ _ hx => hx.elim)
          replace hf := hg
          clear hg
          refine v_iadd dX2_tellDoor_112 ?_
          replace hf := rv_e hf
          obtain ⟨w67, fs68, hh69, hf⟩ := hf
          refine V.addK0 ?_
          refine V.addN0 ?_
          refine v_callV (mc := 0) (ms := 0) 1 dX2_tellDoor_113 (m_X2_writes hG hf) rfl hh69 rfl (lw_V q2797 q2799 qs81 q98 q2800) rfl (by decide +kernel) (by decide) rfl (cat_len (Nat.le_of_ble_eq_true rfl)) (kk_V fun h70 hg => ?_) (fun _ _ _ hx => hx.elim)
          replace hf := hg
          clear hg
          refine v_qload_n (r := (some a0)) (i := 0) dX2_tellDoor_116 rfl rfl ?_
          replace hf := gI_e hf
          obtain ⟨w72, fs73, i71, hh74, hk75, hf⟩ := hf
          refine v_getf (T := TX2) (ci := 2) 12 dX2_tellDoor_117 q2500 rfl in_X2 (Nat.le_of_ble_eq_true rfl) (Or.inl rfl) hh74 hk75 ?_
          exact v_iret dX2_tellDoor_120 rfl ⟨_, rfl, hf⟩
        · replace hf := hf.2 c57
          refine v_qload_n (r := (some a0)) (i := 0) dX2_tellDoor_92 rfl rfl ?_
          replace hf := gI_e hf
          obtain ⟨w77, fs78, i76, hh79, hk80, hf⟩ := hf
          refine v_getf (T := TX2) (ci := 2) 12 dX2_tellDoor_93 q2500 rfl in_X2 (Nat.le_of_ble_eq_true rfl) (Or.inl rfl) hh79 hk80 ?_
          exact v_iret dX2_tellDoor_96 rfl ⟨_, rfl, hf⟩
      · replace hf := hf.2 c38
        refine v_bipush (v := 111) dX2_tellDoor_63 (by decide) ?_
        refine v_goto 70 dX2_tellDoor_65 (by decide) ?_
        replace hf := rv_e hf
        obtain ⟨w81, fs82, hh83, hf⟩ := hf
        refine V.addK0 ?_
        refine V.addN0 ?_
        refine v_callV (mc := 0) (ms := 0) 1 dX2_tellDoor_70 (m_X2_writes hG hf) rfl hh83 rfl (lw_V q2797 q2799 qs81 q98 q2800) rfl (by decide +kernel) (by decide) rfl (cat_len (Nat.le_of_ble_eq_true rfl)) (kk_V fun h84 hg => ?_) (fun _ _ _ hx => hx.elim)
        replace hf := hg
        clear hg
        refine v_qload_n (r := (some a0)) (i := 0) dX2_tellDoor_73 rfl rfl ?_
        refine v_qload_n (r := (some a0)) (i := 0) dX2_tellDoor_74 rfl rfl ?_
        refine v_iload_n (i := 1) dX2_tellDoor_75 rfl rfl ?_
        refine v_iconst (v := 1) dX2_tellDoor_76 (by decide) ?_
        replace hf := rv_e hf
        obtain ⟨w85, fs86, hh87, hf⟩ := hf
        refine V.addK0 ?_
        refine V.addN0 ?_
        refine v_callV (mc := 0) (ms := 0) 2 dX2_tellDoor_77 (m_X2_of hG hf) rfl hh87 rfl (lw_V q2573 q2575 qs51 q98 q2576) rfl (by decide +kernel) (by decide) rfl (cat_len (Nat.le_of_ble_eq_true rfl)) (kk_I fun i89 h88 hg => ?_) (fun _ _ _ hx => hx.elim)
        replace hf := hg
        clear hg
        replace hf := rv_e hf
        obtain ⟨w90, fs91, hh92, hf⟩ := hf
        refine V.addK0 ?_
        refine V.addN0 ?_
        refine v_callV (mc := 0) (ms := 0) 1 dX2_tellDoor_80 (m_X2_writesNumber hG hf) rfl hh92 rfl (lw_V q2793 q2795 qs80 q98 q2796) rfl (by decide +kernel) (by decide) rfl (cat_len (Nat.le_of_ble_eq_true rfl)) (kk_V fun h93 hg => ?_) (fun _ _ _ hx => hx.elim)
        replace hf := hg
        clear hg
        refine v_qload_n (r := (some a0)) (i := 0) dX2_tellDoor_83 rfl rfl ?_
        refine v_iload_n (i := 1) dX2_tellDoor_84 rfl rfl ?_
        refine v_iconst (v := 4) dX2_tellDoor_85 (by decide) ?_
        replace hf := rv_e hf
        obtain ⟨w94, fs95, hh96, hf⟩ := hf
        refine V.addK0 ?_
        refine V.addN0 ?_
        refine v_callV (mc := 0) (ms := 0) 2 dX2_tellDoor_86 (m_X2_of hG hf) rfl hh96 rfl (lw_V q2573 q2575 qs51 q98 q2576) rfl (by decide +kernel) (by decide) rfl (cat_len (Nat.le_of_ble_eq_true rfl)) (kk_I fun i98 h97 hg => ?_) (fun _ _ _ hx => hx.elim)
        replace hf := hg
        clear hg
        refine v_if_ne 97 dX2_tellDoor_89 (by decide) (fun c99 => ?_) (fun c99 => ?_)
        · replace hf := hf.1 c99
          refine v_qload_n (r := (some a0)) (i := 0) dX2_tellDoor_97 rfl rfl ?_
          refine v_bipush (v := 33) dX2_tellDoor_98 (by decide) ?_
          replace hf := rv_e hf
          obtain ⟨w100, fs101, hh102, hf⟩ := hf
          refine V.addK0 ?_
          refine V.addN0 ?_
          refine v_callV (mc := 0) (ms := 0) 1 dX2_tellDoor_100 (m_X2_writes hG hf) rfl hh102 rfl (lw_V q2797 q2799 qs81 q98 q2800) rfl (by decide +kernel) (by decide) rfl (cat_len (Nat.le_of_ble_eq_true rfl)) (kk_V fun h103 hg => ?_) (fun _ _ _ hx => hx.elim)
          replace hf := hg
          clear hg
          refine v_qload_n (r := (some a0)) (i := 0) dX2_tellDoor_103 rfl rfl ?_
          refine v_bipush (v := 97) dX2_tellDoor_104 (by decide) ?_
          refine v_qload_n (r := (some a0)) (i := 0) dX2_tellDoor_106 rfl rfl ?_
          refine v_iload_n (i := 1) dX2_tellDoor_107 rfl rfl ?_
          refine v_iconst (v := 3) dX2_tellDoor_108 (by decide) ?_
          replace hf := rv_e hf
          obtain ⟨w104, fs105, hh106, hf⟩ := hf
          refine V.addK0 ?_
          refine V.addN0 ?_
          refine v_callV (mc := 0) (ms := 0) 2 dX2_tellDoor_109 (m_X2_of hG hf) rfl hh106 rfl (lw_V q2573 q2575 qs51 q98 q2576) rfl (by decide +kernel) (by decide) rfl (cat_len (Nat.le_of_ble_eq_true rfl)) (kk_I fun i108 h107 hg => ?_) (fun _ _ _ hx => hx.elim)
          replace hf := hg
          clear hg
          refine v_iadd dX2_tellDoor_112 ?_
          replace hf := rv_e hf
          obtain ⟨w109, fs110, hh111, hf⟩ := hf
          refine V.addK0 ?_
          refine V.addN0 ?_
          refine v_callV (mc := 0) (ms := 0) 1 dX2_tellDoor_113 (m_X2_writes hG hf) rfl hh111 rfl (lw_V q2797 q2799 qs81 q98 q2800) rfl (by decide +kernel) (by decide) rfl (cat_len (Nat.le_of_ble_eq_true rfl)) (kk_V fun h112 hg => ?_) (fun _ _ _ hx => hx.elim)
          replace hf := hg
          clear hg
          refine v_qload_n (r := (some a0)) (i := 0) dX2_tellDoor_116 rfl rfl ?_
          replace hf := gI_e hf
          obtain ⟨w114, fs115, i113, hh116, hk117, hf⟩ := hf
          refine v_getf (T := TX2) (ci := 2) 12 dX2_tellDoor_117 q2500 rfl in_X2 (Nat.le_of_ble_eq_true rfl) (Or.inl rfl) hh116 hk117 ?_
          exact v_iret dX2_tellDoor_120 rfl ⟨_, rfl, hf⟩
        · replace hf := hf.2 c99
          refine v_qload_n (r := (some a0)) (i := 0) dX2_tellDoor_92 rfl rfl ?_
          replace hf := gI_e hf
          obtain ⟨w119, fs120, i118, hh121, hk122, hf⟩ := hf
          refine v_getf (T := TX2) (ci := 2) 12 dX2_tellDoor_93 q2500 rfl in_X2 (Nat.le_of_ble_eq_true rfl) (Or.inl rfl) hh121 hk122 ?_
          exact v_iret dX2_tellDoor_96 rfl ⟨_, rfl, hf⟩
    · replace hf := hf.2 c32
      refine v_bipush (v := 45) dX2_tellDoor_48 (by decide) ?_
      refine v_goto 70 dX2_tellDoor_50 (by decide) ?_
      replace hf := rv_e hf
      obtain ⟨w123, fs124, hh125, hf⟩ := hf
      refine V.addK0 ?_
      refine V.addN0 ?_
      refine v_callV (mc := 0) (ms := 0) 1 dX2_tellDoor_70 (m_X2_writes hG hf) rfl hh125 rfl (lw_V q2797 q2799 qs81 q98 q2800) rfl (by decide +kernel) (by decide) rfl (cat_len (Nat.le_of_ble_eq_true rfl)) (kk_V fun h126 hg => ?_) (fun _ _ _ hx => hx.elim)
      replace hf := hg
      clear hg
      refine v_qload_n (r := (some a0)) (i := 0) dX2_tellDoor_73 rfl rfl ?_
      refine v_qload_n (r := (some a0)) (i := 0) dX2_tellDoor_74 rfl rfl ?_
      refine v_iload_n (i := 1) dX2_tellDoor_75 rfl rfl ?_
      refine v_iconst (v := 1) dX2_tellDoor_76 (by decide) ?_
      replace hf := rv_e hf
      obtain ⟨w127, fs128, hh129, hf⟩ := hf
      refine V.addK0 ?_
      refine V.addN0 ?_
      refine v_callV (mc := 0) (ms := 0) 2 dX2_tellDoor_77 (m_X2_of hG hf) rfl hh129 rfl (lw_V q2573 q2575 qs51 q98 q2576) rfl (by decide +kernel) (by decide) rfl (cat_len (Nat.le_of_ble_eq_true rfl)) (kk_I fun i131 h130 hg => ?_) (fun _ _ _ hx => hx.elim)
      replace hf := hg
      clear hg
      replace hf := rv_e hf
      obtain ⟨w132, fs133, hh134, hf⟩ := hf
      refine V.addK0 ?_
      refine V.addN0 ?_
      refine v_callV (mc := 0) (ms := 0) 1 dX2_tellDoor_80 (m_X2_writesNumber hG hf) rfl hh134 rfl (lw_V q2793 q2795 qs80 q98 q2796) rfl (by decide +kernel) (by decide) rfl (cat_len (Nat.le_of_ble_eq_true rfl)) (kk_V fun h135 hg => ?_) (fun _ _ _ hx => hx.elim)
      replace hf := hg
      clear hg
      refine v_qload_n (r := (some a0)) (i := 0) dX2_tellDoor_83 rfl rfl ?_
      refine v_iload_n (i := 1) dX2_tellDoor_84 rfl rfl ?_
      refine v_iconst (v := 4) dX2_tellDoor_85 (by decide) ?_
      replace hf := rv_e hf
      obtain ⟨w136, fs137, hh138, hf⟩ := hf
      refine V.addK0 ?_
      refine V.addN0 ?_
      refine v_callV (mc := 0) (ms := 0) 2 dX2_tellDoor_86 (m_X2_of hG hf) rfl hh138 rfl (lw_V q2573 q2575 qs51 q98 q2576) rfl (by decide +kernel) (by decide) rfl (cat_len (Nat.le_of_ble_eq_true rfl)) (kk_I fun i140 h139 hg => ?_) (fun _ _ _ hx => hx.elim)
      replace hf := hg
      clear hg
      refine v_if_ne 97 dX2_tellDoor_89 (by decide) (fun c141 => ?_) (fun c141 => ?_)
      · replace hf := hf.1 c141
        refine v_qload_n (r := (some a0)) (i := 0) dX2_tellDoor_97 rfl rfl ?_
        refine v_bipush (v := 33) dX2_tellDoor_98 (by decide) ?_
        replace hf := rv_e hf
        obtain ⟨w142, fs143, hh144, hf⟩ := hf
        refine V.addK0 ?_
        refine V.addN0 ?_
        refine v_callV (mc := 0) (ms := 0) 1 dX2_tellDoor_100 (m_X2_writes hG hf) rfl hh144 rfl (lw_V q2797 q2799 qs81 q98 q2800) rfl (by decide +kernel) (by decide) rfl (cat_len (Nat.le_of_ble_eq_true rfl)) (kk_V fun h145 hg => ?_) (fun _ _ _ hx => hx.elim)
        replace hf := hg
        clear hg
        refine v_qload_n (r := (some a0)) (i := 0) dX2_tellDoor_103 rfl rfl ?_
        refine v_bipush (v := 97) dX2_tellDoor_104 (by decide) ?_
        refine v_qload_n (r := (some a0)) (i := 0) dX2_tellDoor_106 rfl rfl ?_
        refine v_iload_n (i := 1) dX2_tellDoor_107 rfl rfl ?_
        refine v_iconst (v := 3) dX2_tellDoor_108 (by decide) ?_
        replace hf := rv_e hf
        obtain ⟨w146, fs147, hh148, hf⟩ := hf
        refine V.addK0 ?_
        refine V.addN0 ?_
        refine v_callV (mc := 0) (ms := 0) 2 dX2_tellDoor_109 (m_X2_of hG hf) rfl hh148 rfl (lw_V q2573 q2575 qs51 q98 q2576) rfl (by decide +kernel) (by decide) rfl (cat_len (Nat.le_of_ble_eq_true rfl)) (kk_I fun i150 h149 hg => ?_) (fun _ _ _ hx => hx.elim)
        replace hf := hg
        clear hg
        refine v_iadd dX2_tellDoor_112 ?_
        replace hf := rv_e hf
        obtain ⟨w151, fs152, hh153, hf⟩ := hf
        refine V.addK0 ?_
        refine V.addN0 ?_
        refine v_callV (mc := 0) (ms := 0) 1 dX2_tellDoor_113 (m_X2_writes hG hf) rfl hh153 rfl (lw_V q2797 q2799 qs81 q98 q2800) rfl (by decide +kernel) (by decide) rfl (cat_len (Nat.le_of_ble_eq_true rfl)) (kk_V fun h154 hg => ?_) (fun _ _ _ hx => hx.elim)
        replace hf := hg
        clear hg
        refine v_qload_n (r := (some a0)) (i := 0) dX2_tellDoor_116 rfl rfl ?_
        replace hf := gI_e hf
        obtain ⟨w156, fs157, i155, hh158, hk159, hf⟩ := hf
        refine v_getf (T := TX2) (ci := 2) 12 dX2_tellDoor_117 q2500 rfl in_X2 (Nat.le_of_ble_eq_true rfl) (Or.inl rfl) hh158 hk159 ?_
        exact v_iret dX2_tellDoor_120 rfl ⟨_, rfl, hf⟩
      · replace hf := hf.2 c141
        refine v_qload_n (r := (some a0)) (i := 0) dX2_tellDoor_92 rfl rfl ?_
        replace hf := gI_e hf
        obtain ⟨w161, fs162, i160, hh163, hk164, hf⟩ := hf
        refine v_getf (T := TX2) (ci := 2) 12 dX2_tellDoor_93 q2500 rfl in_X2 (Nat.le_of_ble_eq_true rfl) (Or.inl rfl) hh163 hk164 ?_
        exact v_iret dX2_tellDoor_96 rfl ⟨_, rfl, hf⟩
  · replace hf := hf.2 c6
    refine v_sipush (v := -1011) dX2_tellDoor_8 (by decide) ?_
    exact v_iret dX2_tellDoor_11 rfl ⟨_, rfl, hf⟩
abbrev Y_X2_account : Yt := (yX2_account, some (.int), 3, 84, [])
def f_X2_account (G : Gt) (h : Hp) (k n : Nat) (t_0 : Option Nat) (i_1 : Int32) (K : Int32 → Hp → Prop) : Prop :=
((i_1 = (0 : Int32) → gR h t_0 2 0 fun r1 =>
aI h r1 0 (0 : Int32) fun i12 =>
K i12 h) ∧
(i_1 = (1 : Int32) → gR h t_0 2 0 fun r13 =>
aI h r13 0 (1 : Int32) fun i24 =>
K i24 h) ∧
(i_1 = (2 : Int32) → rv h t_0 2 (dI G Y_X2_lit cX2_lit 3 [va_rf t_0] h k n (fun i29 h28 k32 n33 =>
K i29 h28) xN)) ∧
(i_1 = (3 : Int32) → rv h t_0 2 (dI G Y_X2_shut cX2_shut 3 [va_rf t_0] h k n (fun i38 h37 k41 n42 =>
K i38 h37) xN)) ∧
(i_1 = (4 : Int32) → gR h t_0 2 0 fun r43 =>
aI h r43 0 (7 : Int32) fun i54 =>
K i54 h) ∧
(i_1 = (5 : Int32) → rv h t_0 2 (dI G Y_X2_lying cX2_lying 4 [va_rf t_0] h k n (fun i59 h58 k62 n63 =>
K i59 h58) xN)) ∧
(i_1 = (6 : Int32) → rv h t_0 2 (f_X2_inHand G h t_0 (fun i68 h67 =>
K i68 h67))) ∧
(i_1 = (7 : Int32) → gR h t_0 2 0 fun r69 =>
aI h r69 0 (8 : Int32) fun i80 =>
K i80 h) ∧
(i_1 = (8 : Int32) → rv h t_0 2 (dI G Y_X2_allOil cX2_allOil 3 [va_rf t_0] h k n (fun i85 h84 k88 n89 =>
K i85 h84) xN)) ∧
(i_1 = (9 : Int32) → gR h t_0 2 0 fun r90 =>
aI h r90 0 (9 : Int32) fun i101 =>
K i101 h) ∧
(i_1 = (10 : Int32) → gI h t_0 2 10 fun i102 =>
K i102 h) ∧
(i_1 = (11 : Int32) → gI h t_0 2 5 fun i107 =>
K i107 h) ∧
(i_1.toInt < 0 ∨ 11 < i_1.toInt → K (-1012 : Int32) h))
theorem m_X2_account {G : Gt} {h : Hp} {mc ms : Nat} {a0 : Nat} {i_1 : Int32} {K : Int32 → Hp → Prop} (hG : Base G) (hA : 0 ≤ mc) (hB : 0 ≤ ms) (hf : f_X2_account G h (mc - 0) (ms - 0) (some a0) i_1 K) : MM G Y_X2_account cX2_account 2 mc ms [.ref a0, .int i_1] h (kI K) xN := by
  refine mm_of hG (by decide +kernel) rfl (ac_c rfl (ac_c rfl ac_nil)) (Nat.le_of_ble_eq_true rfl) (fun E _ _ => ?_)
  obtain ⟨k, hk9⟩ : ∃ z, z = mc - 0 := ⟨_, rfl⟩
  obtain ⟨n, hn9⟩ : ∃ z, z = ms - 0 := ⟨_, rfl⟩
  rw [← hk9, ← hn9] at hf
  refine V.weak (k' := k + 0) (n' := n + 0) ?_ (by omega) (by omega)
  show V G E Y_X2_account cX2_account 2 (QM G E (kI K) xN) h (k + 0) (n + 0) 0 [(0, .ref a0), (1, .int i_1)] []
  unfold f_X2_account at hf
  refine v_iload_n (i := 1) dX2_account_0 rfl rfl ?_
  have hx : i_1.toInt = 0 ∨ i_1.toInt = 1 ∨ i_1.toInt = 2 ∨ i_1.toInt = 3 ∨ i_1.toInt = 4 ∨ i_1.toInt = 5 ∨ i_1.toInt = 6 ∨ i_1.toInt = 7 ∨ i_1.toInt = 8 ∨ i_1.toInt = 9 ∨ i_1.toInt = 10 ∨ i_1.toInt = 11 ∨ (i_1.toInt < 0 ∨ 11 < i_1.toInt) := by omega
  rcases hx with hx | hx | hx | hx | hx | hx | hx | hx | hx | hx | hx | hx | hx
  · have e9 : i_1 = (0 : Int32) := Int32.toInt_inj.mp hx
    replace hf := hf.1 e9
    refine v_tableAt (v := (0 : Int32)) (off := 63) 64 dX2_account_1 e9 (by decide) (by decide) (by decide) (by decide) ?_
    refine v_qload_n (r := (some a0)) (i := 0) dX2_account_64 rfl rfl ?_
    replace hf := gR_e hf
    obtain ⟨w2, fs3, r1, hh4, hk5, hf⟩ := hf
    refine v_getf (T := TX2) (ci := 2) 0 dX2_account_65 q2488 rfl in_X2 (Nat.le_of_ble_eq_true rfl) (Or.inl rfl) hh4 hk5 ?_
    refine v_iconst (v := 0) dX2_account_68 (by decide) ?_
    obtain ⟨a6, rfl⟩ := aI_s hf
    replace hf := aI_e hf
    obtain ⟨w7, N8, f9, hh10, hi11, i12, ei12, hf⟩ := hf
    refine v_iald dX2_account_69 hh10 hi11 ?_
    rw [← ei12]
    exact v_iret dX2_account_70 rfl ⟨_, rfl, hf⟩
  · have e9 : i_1 = (1 : Int32) := Int32.toInt_inj.mp hx
    replace hf := hf.2.1 e9
    refine v_tableAt (v := (1 : Int32)) (off := 70) 71 dX2_account_1 e9 (by decide) (by decide) (by decide) (by decide) ?_
    refine v_qload_n (r := (some a0)) (i := 0) dX2_account_71 rfl rfl ?_
    replace hf := gR_e hf
    obtain ⟨w14, fs15, r13, hh16, hk17, hf⟩ := hf
    refine v_getf (T := TX2) (ci := 2) 0 dX2_account_72 q2488 rfl in_X2 (Nat.le_of_ble_eq_true rfl) (Or.inl rfl) hh16 hk17 ?_
    refine v_iconst (v := 1) dX2_account_75 (by decide) ?_
    obtain ⟨a18, rfl⟩ := aI_s hf
    replace hf := aI_e hf
    obtain ⟨w19, N20, f21, hh22, hi23, i24, ei24, hf⟩ := hf
    refine v_iald dX2_account_76 hh22 hi23 ?_
    rw [← ei24]
    exact v_iret dX2_account_77 rfl ⟨_, rfl, hf⟩
  · have e9 : i_1 = (2 : Int32) := Int32.toInt_inj.mp hx
    replace hf := hf.2.2.1 e9
    refine v_tableAt (v := (2 : Int32)) (off := 77) 78 dX2_account_1 e9 (by decide) (by decide) (by decide) (by decide) ?_
    refine v_qload_n (r := (some a0)) (i := 0) dX2_account_78 rfl rfl ?_
    replace hf := rv_e hf
    obtain ⟨w25, fs26, hh27, hf⟩ := hf
    obtain ⟨mc30, ms31, hkmc30, hnms31, hM⟩ := hf
    refine V.weak (k' := ((k - mc30) + 0) + mc30) (n' := ((n - ms31) + 0) + ms31) ?_ (by omega) (by omega)
    refine v_callV 0 dX2_account_79 hM rfl hh27 rfl (lw_V q2817 q2819 qs82 q98 q2820) rfl (by decide +kernel) (by decide) rfl (cat_len (Nat.le_of_ble_eq_true rfl)) (kk_I fun i29 h28 hg => ?_) (fun _ _ _ hx => hx.elim)
    have hf := hg
    clear hg
    exact v_iret dX2_account_82 rfl ⟨_, rfl, hf⟩
  · have e9 : i_1 = (3 : Int32) := Int32.toInt_inj.mp hx
    replace hf := hf.2.2.2.1 e9
    refine v_tableAt (v := (3 : Int32)) (off := 82) 83 dX2_account_1 e9 (by decide) (by decide) (by decide) (by decide) ?_
    refine v_qload_n (r := (some a0)) (i := 0) dX2_account_83 rfl rfl ?_
    replace hf := rv_e hf
    obtain ⟨w34, fs35, hh36, hf⟩ := hf
    obtain ⟨mc39, ms40, hkmc39, hnms40, hM⟩ := hf
    refine V.weak (k' := ((k - mc39) + 0) + mc39) (n' := ((n - ms40) + 0) + ms40) ?_ (by omega) (by omega)
    refine v_callV 0 dX2_account_84 hM rfl hh36 rfl (lw_V q2821 q2823 qs83 q98 q2824) rfl (by decide +kernel) (by decide) rfl (cat_len (Nat.le_of_ble_eq_true rfl)) (kk_I fun i38 h37 hg => ?_) (fun _ _ _ hx => hx.elim)
    have hf := hg
    clear hg
    exact v_iret dX2_account_87 rfl ⟨_, rfl, hf⟩
  · have e9 : i_1 = (4 : Int32) := Int32.toInt_inj.mp hx
    replace hf := hf.2.2.2.2.1 e9
    refine v_tableAt (v := (4 : Int32)) (off := 87) 88 dX2_account_1 e9 (by decide) (by decide) (by decide) (by decide) ?_
    refine v_qload_n (r := (some a0)) (i := 0) dX2_account_88 rfl rfl ?_
    replace hf := gR_e hf
    obtain ⟨w44, fs45, r43, hh46, hk47, hf⟩ := hf
    refine v_getf (T := TX2) (ci := 2) 0 dX2_account_89 q2488 rfl in_X2 (Nat.le_of_ble_eq_true rfl) (Or.inl rfl) hh46 hk47 ?_
    refine v_bipush (v := 7) dX2_account_92 (by decide) ?_
    obtain ⟨a48, rfl⟩ := aI_s hf
    replace hf := aI_e hf
    obtain ⟨w49, N50, f51, hh52, hi53, i54, ei54, hf⟩ := hf
    refine v_iald dX2_account_94 hh52 hi53 ?_
    rw [← ei54]
    exact v_iret dX2_account_95 rfl ⟨_, rfl, hf⟩
  · have e9 : i_1 = (5 : Int32) := Int32.toInt_inj.mp hx
    replace hf := hf.2.2.2.2.2.1 e9
    refine v_tableAt (v := (5 : Int32)) (off := 95) 96 dX2_account_1 e9 (by decide) (by decide) (by decide) (by decide) ?_
    refine v_qload_n (r := (some a0)) (i := 0) dX2_account_96 rfl rfl ?_
    replace hf := rv_e hf
    obtain ⟨w55, fs56, hh57, hf⟩ := hf
    obtain ⟨mc60, ms61, hkmc60, hnms61, hM⟩ := hf
    refine V.weak (k' := ((k - mc60) + 0) + mc60) (n' := ((n - ms61) + 0) + ms61) ?_ (by omega) (by omega)
    refine v_callV 0 dX2_account_97 hM rfl hh57 rfl (lw_V q2825 q2827 qs84 q98 q2828) rfl (by decide +kernel) (by decide) rfl (cat_len (Nat.le_of_ble_eq_true rfl)) (kk_I fun i59 h58 hg => ?_) (fun _ _ _ hx => hx.elim)
    have hf := hg
    clear hg
    exact v_iret dX2_account_100 rfl ⟨_, rfl, hf⟩
  · have e9 : i_1 = (6 : Int32) := Int32.toInt_inj.mp hx
    replace hf := hf.2.2.2.2.2.2.1 e9
    refine v_tableAt (v := (6 : Int32)) (off := 100) 101 dX2_account_1 e9 (by decide) (by decide) (by decide) (by decide) ?_
    refine v_qload_n (r := (some a0)) (i := 0) dX2_account_101 rfl rfl ?_
    replace hf := rv_e hf
    obtain ⟨w64, fs65, hh66, hf⟩ := hf
    refine V.addK0 ?_
    refine V.addN0 ?_
    refine v_callV (mc := 0) (ms := 0) 0 dX2_account_102 (m_X2_inHand hG hf) rfl hh66 rfl (lw_V q2829 q2831 qs85 q98 q2832) rfl (by decide +kernel) (by decide) rfl (cat_len (Nat.le_of_ble_eq_true rfl)) (kk_I fun i68 h67 hg => ?_) (fun _ _ _ hx => hx.elim)
    replace hf := hg
    clear hg
    exact v_iret dX2_account_105 rfl ⟨_, rfl, hf⟩
  · have e9 : i_1 = (7 : Int32) := Int32.toInt_inj.mp hx
    replace hf := hf.2.2.2.2.2.2.2.1 e9
    refine v_tableAt (v := (7 : Int32)) (off := 105) 106 dX2_account_1 e9 (by decide) (by decide) (by decide) (by decide) ?_
    refine v_qload_n (r := (some a0)) (i := 0) dX2_account_106 rfl rfl ?_
    replace hf := gR_e hf
    obtain ⟨w70, fs71, r69, hh72, hk73, hf⟩ := hf
    refine v_getf (T := TX2) (ci := 2) 0 dX2_account_107 q2488 rfl in_X2 (Nat.le_of_ble_eq_true rfl) (Or.inl rfl) hh72 hk73 ?_
    refine v_bipush (v := 8) dX2_account_110 (by decide) ?_
    obtain ⟨a74, rfl⟩ := aI_s hf
    replace hf := aI_e hf
    obtain ⟨w75, N76, f77, hh78, hi79, i80, ei80, hf⟩ := hf
    refine v_iald dX2_account_112 hh78 hi79 ?_
    rw [← ei80]
    exact v_iret dX2_account_113 rfl ⟨_, rfl, hf⟩
  · have e9 : i_1 = (8 : Int32) := Int32.toInt_inj.mp hx
    replace hf := hf.2.2.2.2.2.2.2.2.1 e9
    refine v_tableAt (v := (8 : Int32)) (off := 113) 114 dX2_account_1 e9 (by decide) (by decide) (by decide) (by decide) ?_
    refine v_qload_n (r := (some a0)) (i := 0) dX2_account_114 rfl rfl ?_
    replace hf := rv_e hf
    obtain ⟨w81, fs82, hh83, hf⟩ := hf
    obtain ⟨mc86, ms87, hkmc86, hnms87, hM⟩ := hf
    refine V.weak (k' := ((k - mc86) + 0) + mc86) (n' := ((n - ms87) + 0) + ms87) ?_ (by omega) (by omega)
    refine v_callV 0 dX2_account_115 hM rfl hh83 rfl (lw_V q2833 q2835 qs86 q98 q2836) rfl (by decide +kernel) (by decide) rfl (cat_len (Nat.le_of_ble_eq_true rfl)) (kk_I fun i85 h84 hg => ?_) (fun _ _ _ hx => hx.elim)
    have hf := hg
    clear hg
    exact v_iret dX2_account_118 rfl ⟨_, rfl, hf⟩
  · have e9 : i_1 = (9 : Int32) := Int32.toInt_inj.mp hx
    replace hf := hf.2.2.2.2.2.2.2.2.2.1 e9
    refine v_tableAt (v := (9 : Int32)) (off := 118) 119 dX2_account_1 e9 (by decide) (by decide) (by decide) (by decide) ?_
    refine v_qload_n (r := (some a0)) (i := 0) dX2_account_119 rfl rfl ?_
    replace hf := gR_e hf
    obtain ⟨w91, fs92, r90, hh93, hk94, hf⟩ := hf
    refine v_getf (T := TX2) (ci := 2) 0 dX2_account_120 q2488 rfl in_X2 (Nat.le_of_ble_eq_true rfl) (Or.inl rfl) hh93 hk94 ?_
    refine v_bipush (v := 9) dX2_account_123 (by decide) ?_
    obtain ⟨a95, rfl⟩ := aI_s hf
    replace hf := aI_e hf
    obtain ⟨w96, N97, f98, hh99, hi100, i101, ei101, hf⟩ := hf
    refine v_iald dX2_account_125 hh99 hi100 ?_
    rw [← ei101]
    exact v_iret dX2_account_126 rfl ⟨_, rfl, hf⟩
  · have e9 : i_1 = (10 : Int32) := Int32.toInt_inj.mp hx
    replace hf := hf.2.2.2.2.2.2.2.2.2.2.1 e9
    refine v_tableAt (v := (10 : Int32)) (off := 126) 127 dX2_account_1 e9 (by decide) (by decide) (by decide) (by decide) ?_
    refine v_qload_n (r := (some a0)) (i := 0) dX2_account_127 rfl rfl ?_
    replace hf := gI_e hf
    obtain ⟨w103, fs104, i102, hh105, hk106, hf⟩ := hf
    refine v_getf (T := TX2) (ci := 2) 10 dX2_account_128 q2498 rfl in_X2 (Nat.le_of_ble_eq_true rfl) (Or.inl rfl) hh105 hk106 ?_
    exact v_iret dX2_account_131 rfl ⟨_, rfl, hf⟩
  · have e9 : i_1 = (11 : Int32) := Int32.toInt_inj.mp hx
    replace hf := hf.2.2.2.2.2.2.2.2.2.2.2.1 e9
    refine v_tableAt (v := (11 : Int32)) (off := 131) 132 dX2_account_1 e9 (by decide) (by decide) (by decide) (by decide) ?_
    refine v_qload_n (r := (some a0)) (i := 0) dX2_account_132 rfl rfl ?_
    replace hf := gI_e hf
    obtain ⟨w108, fs109, i107, hh110, hk111, hf⟩ := hf
    refine v_getf (T := TX2) (ci := 2) 5 dX2_account_133 q2493 rfl in_X2 (Nat.le_of_ble_eq_true rfl) (Or.inl rfl) hh110 hk111 ?_
    exact v_iret dX2_account_136 rfl ⟨_, rfl, hf⟩
  · replace hf := hf.2.2.2.2.2.2.2.2.2.2.2.2 hx
    refine v_tableOut 137 dX2_account_1 hx (by decide) ?_
    refine v_sipush (v := -1012) dX2_account_137 (by decide) ?_
    exact v_iret dX2_account_140 rfl ⟨_, rfl, hf⟩
