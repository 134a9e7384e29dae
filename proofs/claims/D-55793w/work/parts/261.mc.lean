/-! THE MODEL'S CHANGING CALLS: door, key, oil -/
set_option maxRecDepth 100000
section OP
variable {G : Gt} {q : Nat} {A : Nat → Nat} {s : MS} {h0 : Hp} {O : Ou} {N : Nat} {K : Int32 → Hp → Prop} {M : Mz}
theorem mx_betw {a b : Nat} (hG : Base G) (hd : Dis q A) (hg : gRep (s.1 0) M) (hw : wf M N) (ha : a < 2 ^ 31) (hb : b < 2 ^ 31) (k1 : ∀ d, betw M a b = some d → K (nI d) (ovl q A s h0)) (k2 : betw M a b = none → K (-1) (ovl q A s h0)) : MM G Y_X2_between cX2_between 4 0 0 [.ref q, .int (nI a), .int (nI b)] (ovl q A s h0) (kI K) xN := by
  have hD := wf_nD hw
  have hR := wf_nR hw
  refine b_X2_between hG (fun E => s_X2_between_0 hG (Nat.le_refl _) (Nat.le_refl _) ?_)
  have key : ∀ j, j ≤ z_nD M → (∀ d, d < j → ¬ (d_lo (z_dr M d) = min a b ∧ d_hi (z_dr M d) = max a b)) → V G E Y_X2_between cX2_between 4 (QM G E (kI K) xN) (ovl q A s h0) 0 0 2 [(0, .ref q), (1, .int (nI a)), (2, .int (nI b)), (3, .int (nI j))] [] := by
    refine up_to (fun hn => ?_) (fun j hj ih hn => ?_)
    · refine s_X2_between_2 hG (Nat.le_refl _) (Nat.le_refl _) ?_
      unfold g_X2_between_2
      rw [gR_m0, ga1 hd, gr_nD hg]
      exact ⟨fun _ => k2 (fnd_n hn), fun e => absurd (nI_le (Nat.le_refl _) (by omega)) e⟩
    · have ih' : ¬ (d_lo (z_dr M j) = min a b ∧ d_hi (z_dr M j) = max a b) → V G E Y_X2_between cX2_between 4 (QM G E (kI K) xN) (ovl q A s h0) 0 0 2 [(0, .ref q), (1, .int (nI a)), (2, .int (nI b)), (3, .int (nI j + 1))] [] := by
        intro hp
        rw [nI_1]
        refine ih (fun d hdj => ?_)
        by_cases e : d = j
        · subst e; exact hp
        · exact hn d (by omega)
      obtain ⟨w1, w2, -⟩ := wf_d hw hj
      refine s_X2_between_2 hG (Nat.le_refl _) (Nat.le_refl _) ?_
      unfold g_X2_between_2
      rw [gR_m0, ga1 hd, gr_nD hg]
      refine ⟨fun e => absurd e (nI_ge hj (by omega)), fun _ => ?_⟩
      rw [rv_m]
      refine mx_lo hd hg hw hj (mx_least ha hb ?_)
      rw [nI_is (by omega) (by omega)]
      refine ⟨fun e => ih' (fun z => e z.1), fun e => ?_⟩
      rw [rv_m]
      refine mx_hi hd hg hw hj (mx_most ha hb ?_)
      rw [nI_is (by omega) (by omega)]
      exact ⟨fun e2 => ih' (fun z => e2 z.2), fun e2 => k1 j (fnd_s hj ⟨e, e2⟩ hn)⟩
  exact key 0 (Nat.zero_le _) (fun d hdj => absurd hdj (Nat.not_lt_zero _))
theorem mx_door (hG : Base G) (hd : Dis q A) (ho : oRep s O) (hw : wfO O N) {x y kd co : Int32} (k : ∀ s', oRep s' (apO O (opDoor (o_c O) x y kd co)).2 → Fr s s' → K (apO O (opDoor (o_c O) x y kd co)).1 (ovl q A s' h0)) : f_X2_door G (ovl q A s h0) 0 0 (some q) x y kd co K := by
  have hg := ho.1
  have hR := wf_nR hw.1
  have hD := wf_nD hw.1
  unfold f_X2_door
  rw [rv_m]
  refine mx_isRoom hd hg hw.1 (bI_z (fun c => ?_) (fun c => ?_))
  · rw [opDoor, if_neg (fun z => c z.1)] at k
    exact k s ho (Fr_r s)
  rw [rv_m]
  refine mx_isRoom hd hg hw.1 (bI_y (fun c2 => ?_) (fun c2 => ?_))
  rotate_left
  · rw [opDoor, if_neg (fun z => c2 z.2)] at k
    exact k s ho (Fr_r s)
  obtain ⟨a, ha, rfl⟩ := ix_n c
  obtain ⟨b, hb, rfl⟩ := ix_n c2
  rw [opDoor, if_pos ⟨c, c2⟩, nN_nI (by omega), nN_nI (by omega)] at k
  refine Mz_inn (lo := 0) (hi := 2) rfl rfl (bI_z (fun c3 => ?_) (fun c3 => ?_))
  · rw [if_neg (fun z => c3 z.1)] at k
    exact k s ho (Fr_r s)
  refine Mz_inn (lo := -1) (hi := 2) rfl rfl (bI_y (fun c4 => ?_) (fun c4 => ?_))
  rotate_left
  · rw [if_neg (fun z => c4 z.2)] at k
    exact k s ho (Fr_r s)
  rw [if_pos ⟨c3, c4⟩] at k
  obtain ⟨kn, hkn, rfl⟩ := inn_n (b := 2) c3.1 c3.2
  rw [nN_nI (by omega)] at k
  refine ⟨fun e => ?_, fun e => ?_⟩
  rotate_left
  · rw [if_pos e] at k
    rw [rv_m]
    exact mx_refuses ho k
  rw [if_neg e] at k
  rw [nI_is (by omega) (by omega)] at e
  rw [rv_m]
  refine dI_0 (mx_betw hG hd hg hw.1 (by omega) (by omega) (fun d hdd => ?_) (fun hdd => ?_))
  · rw [hdd] at k
    have hlt := (fnd_is hdd).1
    refine ⟨fun z => absurd z (nI_pos (by omega)), fun _ => ?_⟩
    rw [rv_m]
    refine dI_0 (mx_betw hG hd hg hw.1 (by omega) (by omega) (fun d2 hd2 => ?_) (fun hd2 => ?_))
    · cases hdd.symm.trans hd2
      rw [rv_m]
      exact mx_refuses ho k
    · exact absurd (hdd.symm.trans hd2) (fun z => by cases z)
  · rw [hdd] at k
    refine ⟨fun _ => ?_, fun z => absurd (by decide) z⟩
    rw [gR_m0, ga1 hd, gr_nD hg, show (16 : Int32) = nI 16 from rfl, nI_is (by omega) (by omega)]
    refine ⟨fun e2 => ?_, fun e2 => ?_⟩
    rotate_left
    · have k : ∀ s', oRep s' (apO O (if z_nD (o_c O) = 16 then oF 1 16 else oD (nI (z_nD (o_c O))) (sDoor (o_c O) (mkDr a b kn co)))).2 → Fr s s' → K (apO O (if z_nD (o_c O) = 16 then oF 1 16 else oD (nI (z_nD (o_c O))) (sDoor (o_c O) (mkDr a b kn co)))).1 (ovl q A s' h0) := k
      rw [if_pos e2] at k
      rw [rv_m]
      exact mx_refuses ho k
    have k : ∀ s', oRep s' (apO O (if z_nD (o_c O) = 16 then oF 1 16 else oD (nI (z_nD (o_c O))) (sDoor (o_c O) (mkDr a b kn co)))).2 → Fr s s' → K (apO O (if z_nD (o_c O) = 16 then oF 1 16 else oD (nI (z_nD (o_c O))) (sDoor (o_c O) (mkDr a b kn co)))).1 (ovl q A s' h0) := k
    rw [if_neg e2] at k
    rw [gR_m0, rv_m]
    refine mx_kp hG hd ho hw (fun s' e0 hk hf => ?_)
    rw [gR_m0, ga1 hd, e0, gr_nD hg, gR_m0]
    refine mx_least (by omega) (by omega) ?_
    rw [gx_dk, gs hd (by omega), gR_m0]
    refine mx_most (by omega) (by omega) ?_
    rw [gx_d1, gs hd (by omega), gR_m0, gx_d2, gs hd (by omega), gR_m0, gx_d3, gs hd (by omega), gR_m0, aU_aU, aU_aU, aU_aU, aU_s, aU_s, aU_s, e0]
    rw [gx_d4, gx_d5]
    have fin : ∀ F : Nat → Int32, F = upd (upd (upd (upd (upd (upd (upd (s.1 0) (50 + 6 * z_nD (o_c O)) (nI (min a b))) (50 + 6 * z_nD (o_c O) + 1) (nI (max a b))) (50 + 6 * z_nD (o_c O) + 2) (nI kn)) (50 + 6 * z_nD (o_c O) + 3) co) (50 + 6 * z_nD (o_c O) + 4) (nI (if co = -1 then 0 else 1))) (50 + 6 * z_nD (o_c O) + 5) 0) 1 (nI (z_nD (o_c O) + 1)) → K (nI (z_nD (o_c O))) (ovl q A (aU s' 0 F) h0) := by
      intro F hF
      subst hF
      obtain ⟨f1, f2⟩ := mx_fin hk hf (sDoor_g (dr := mkDr a b kn co) (g' := upd (upd (upd (upd (upd (upd (upd (s.1 0) (50 + 6 * z_nD (o_c O)) (nI (min a b))) (50 + 6 * z_nD (o_c O) + 1) (nI (max a b))) (50 + 6 * z_nD (o_c O) + 2) (nI kn)) (50 + 6 * z_nD (o_c O) + 3) co) (50 + 6 * z_nD (o_c O) + 4) (nI (if co = -1 then 0 else 1))) (50 + 6 * z_nD (o_c O) + 5) 0) 1 (nI (z_nD (o_c O) + 1))) hw.1 hg (by omega) pk_us
        (by rw [pk_un (by omega), pk_un (by omega), pk_un (by omega), pk_un (by omega), pk_un (by omega), pk_un (by omega), pk_us]; rfl)
        (by rw [pk_un (by omega), pk_un (by omega), pk_un (by omega), pk_un (by omega), pk_un (by omega), pk_us]; rfl)
        (by rw [pk_un (by omega), pk_un (by omega), pk_un (by omega), pk_un (by omega), pk_us]; rfl)
        (by rw [pk_un (by omega), pk_un (by omega), pk_un (by omega), pk_us]; rfl)
        (by rw [pk_un (by omega), pk_un (by omega), pk_us]; rfl)
        (by rw [pk_un (by omega), pk_us]; rfl)
        (fun j j1 j2 j3 j4 j5 j6 j7 => by rw [pk_un j1, pk_un j7, pk_un j6, pk_un j5, pk_un j4, pk_un j3, pk_un j2]))
      exact k _ f1 f2
    refine ⟨fun e3 => ?_, fun e3 => ?_⟩
    · have hc : ¬ co = -1 := by intro z; subst z; exact absurd e3 (by decide)
      rw [if_neg hc] at fin
      rw [gs hd (by omega), gR_m0, gs hd (by omega), gR_m0, ga1 hd, gs1 hd, gR_m0, ga1 hd, aU_aU, aU_aU, aU_aU, aU_s, aU_s, aU_s, aU_s, pk_us, pk_un (by omega), pk_un (by omega), pk_un (by omega), pk_un (by omega), pk_un (by omega), pk_un (by omega), gr_nD hg, nI_1, nI_pred]
      exact fin _ rfl
    · have hc : co = -1 := by
        have h1 := c4.1
        rw [Int32.le_iff_toInt_le] at e3
        have h3 : ¬ (0 : Int) ≤ co.toInt := e3
        apply Int32.toInt_inj.mp
        show co.toInt = -1
        omega
      rw [if_pos hc] at fin
      rw [gs hd (by omega), gR_m0, gs hd (by omega), gR_m0, ga1 hd, gs1 hd, gR_m0, ga1 hd, aU_aU, aU_aU, aU_aU, aU_s, aU_s, aU_s, aU_s, pk_us, pk_un (by omega), pk_un (by omega), pk_un (by omega), pk_un (by omega), pk_un (by omega), pk_un (by omega), gr_nD hg, nI_1, nI_pred]
      exact fin _ rfl
theorem mx_key (hG : Base G) (hd : Dis q A) (ho : oRep s O) (hw : wfO O N) (hN : N < 2 ^ 30) {x y : Int32} (k : ∀ s', oRep s' (apO O (opKey (o_c O) x y)).2 → Fr s s' → K (apO O (opKey (o_c O) x y)).1 (ovl q A s' h0)) : f_X2_key G (ovl q A s h0) 0 0 (some q) x y K := by
  have hg := ho.1
  have hR := wf_nR hw.1
  unfold f_X2_key
  rw [rv_m]
  refine mx_isRoom hd hg hw.1 (bI_y (fun c => ?_) (fun c => ?_))
  rotate_left
  · rw [opKey, if_neg c] at k
    exact k s ho (Fr_r s)
  refine mx_isColour (bI_y (fun c2 => ?_) (fun c2 => ?_))
  rotate_left
  · rw [opKey, if_pos c, if_neg c2] at k
    exact k s ho (Fr_r s)
  obtain ⟨r, hr, rfl⟩ := ix_n c
  obtain ⟨co, hc, rfl⟩ := ix_n c2
  rw [opKey, if_pos c, if_pos c2, nN_nI (by omega), nN_nI (by omega)] at k
  have w1 := wf_key hw.1 hr hc
  rw [gx_key, gR_m0, ga hd (by omega), gr_key hg hr hc, show (9 : Int32) = nI 9 from rfl, nI_is (by omega) (by omega)]
  refine ⟨fun e => ?_, fun e => ?_⟩
  rotate_left
  · rw [if_pos e] at k
    rw [rv_m]
    exact mx_refuses ho k
  rw [if_neg e] at k
  rw [gR_m0, rv_m]
  refine mx_kp hG hd ho hw (fun s' e0 hk hf => ?_)
  rw [gR_m0, ga hd (by omega), gs hd (by omega), gR_m0, ga7 hd, gs7 hd, gR_m0, ga hd (by omega), aU_aU, aU_s, aU_s, e0, gr_key hg hr hc, nI_1, pk_un (by omega), pk_us, pk_un (by omega), gr_la hg, nI_1]
  have f0 : gRep (upd (s.1 0) (10 + 4 * r + 1 + co) (nI (z_key (o_c O) r co + 1))) (sKey (o_c O) r co (z_key (o_c O) r co + 1)) := sKey_g hw.1 hg hr hc pk_us (fun j j1 => by rw [pk_un j1])
  obtain ⟨f1, f2⟩ := mx_fin hk hf (sLaid_g (sKey_wf (r := r) (c := co) (v := z_key (o_c O) r co + 1) hw.1 (by omega)) f0 pk_us (fun j j1 => by rw [pk_un j1]))
  exact k _ f1 f2
theorem mx_oil (hG : Base G) (hd : Dis q A) (ho : oRep s O) (hw : wfO O N) {x y : Int32} (k : ∀ s', oRep s' (apO O (opOil (o_c O) x y)).2 → Fr s s' → K (apO O (opOil (o_c O) x y)).1 (ovl q A s' h0)) : f_X2_oil G (ovl q A s h0) 0 0 (some q) x y K := by
  have hg := ho.1
  have hR := wf_nR hw.1
  unfold f_X2_oil
  rw [rv_m]
  refine mx_isRoom hd hg hw.1 (bI_y (fun c => ?_) (fun c => ?_))
  rotate_left
  · rw [opOil, if_neg c] at k
    exact k s ho (Fr_r s)
  refine Mz_inn (lo := 1) (hi := 50) rfl rfl (bI_y (fun c2 => ?_) (fun c2 => ?_))
  rotate_left
  · rw [opOil, if_pos c, if_neg c2] at k
    exact k s ho (Fr_r s)
  obtain ⟨r, hr, rfl⟩ := ix_n c
  obtain ⟨o, hc, rfl⟩ := inn_n (b := 50) (by have := c2.1; omega) c2.2
  rw [opOil, if_pos c, if_pos c2, nN_nI (by omega), nN_nI (by omega)] at k
  have w1 := wf_oil hw.1 hr
  rw [rv_m]
  refine mx_oilOf hd hg hw.1 hr ?_
  rw [nI_add, show (50 : Int32) = nI 50 from rfl, nI_leI (by omega) (by omega)]
  refine ⟨fun e => ?_, fun e => ?_⟩
  rotate_left
  · rw [if_neg e] at k
    rw [rv_m]
    refine mx_oilOf hd hg hw.1 hr ?_
    rw [rv_m, nI_add]
    exact mx_refuses ho k
  rw [if_pos e] at k
  rw [gR_m0, rv_m]
  refine mx_kp hG hd ho hw (fun s' e0 hk hf => ?_)
  rw [gR_m0, gx_room, ga hd (by omega), gs hd (by omega), e0, gr_oil hg hr, nI_add, rv_m]
  have f0 : gRep (upd (s.1 0) (10 + 4 * r) (nI (z_oil (o_c O) r + o))) (sOil (o_c O) r (z_oil (o_c O) r + o)) := sOil_g hw.1 hg hr pk_us (fun j j1 => by rw [pk_un j1])
  obtain ⟨f1, f2⟩ := mx_fin hk hf f0
  refine mx_oilOf (M := sOil (o_c O) r (z_oil (o_c O) r + o)) hd f1.1 (sOil_wf hw.1 e) hr ?_
  rw [show z_oil (sOil (o_c O) r (z_oil (o_c O) r + o)) r = z_oil (o_c O) r + o from upN_s]
  exact k _ f1 f2
end OP
