/-! THE MODEL'S QUESTIONS: rooms, doors, walker, ranks -/
set_option maxRecDepth 100000
def rWalker (M : Mz) (x : Int32) : Int32 := if inn x 0 5 then (if nN x = 0 then (if z_nR M = 0 then -1015 else nI (z_at M)) else if nN x = 1 then nI (z_st M) else if nN x ≤ 4 then nI (z_hd M (nN x - 2)) else nI (cnt (fun d => d_isAt (z_dr M d) (z_at M) ∧ d_sh (z_dr M d) = 0 ∧ d_for (z_dr M d) (z_st M + z_need M (z_at M))) (z_nD M))) else -1012
noncomputable def rRo (M : Mz) (r w : Nat) : Int32 := if w = 0 then nI (z_oil M r) else if w ≤ 3 then nI (z_key M r (w - 1)) else if w = 4 then nI (cnt (fun d => d_isAt (z_dr M d) r) (z_nD M)) else if w = 5 then (if dbl M r = true then 1 else 0) else rFw (fwN M r)
noncomputable def rRoomOf (M : Mz) (x y : Int32) : Int32 := if ix x (z_nR M) then (if inn y 0 6 then rRo M (nN x) (nN y) else -1012) else -1011
def rDo (dr : Dr) (w : Nat) : Int32 := if w = 0 then nI (d_lo dr) else if w = 1 then nI (d_hi dr) else if w = 2 then nI (d_kd dr) else if w = 3 then d_co dr else if w = 4 then nI (d_sh dr) else nI (d_go dr)
def rDoorOf (M : Mz) (x y : Int32) : Int32 := if ix x (z_nD M) then (if inn y 0 5 then rDo (z_dr M (nN x)) (nN y) else -1012) else -1011
noncomputable def rchN (M : Mz) : Nat → Int32
  | 0 => 0
  | n + 1 => rchN M n ||| (if (fwN M n).isSome = true then (1 : Int32) <<< (nI n &&& 31) else 0)
noncomputable def bstN (M : Mz) (c : Nat) : Nat → Option Nat
  | 0 => none
  | n + 1 => if 0 < z_key M n c ∧ (fwN M n).isSome = true ∧ (∀ b, bstN M c n = some b → (fwN M n).getD 9999 < (fwN M b).getD 9999) then some n else bstN M c n
theorem s_now_lt {M : Mz} {N : Nat} (hw : wf M N) (h : 0 < z_nR M) : z_at M < z_nR M ∧ z_st M % 2 < 2 := ⟨by have := wf_at hw; omega, Nat.mod_lt _ (by decide)⟩
section SP
variable {G : Gt} {q : Nat} {A : Nat → Nat} {s : MS} {h0 : Hp} {N : Nat} {M : Mz} {O : Ou}
theorem mx_spreadsNow {w : Prop} [Decidable w] {K : Hp → Prop} (hG : Base G) (hd : Dis q A) (hg : gRep (s.1 0) M) (hw : wf M N) (hN : N < 2 ^ 29) (hR : 0 < z_nR M) (k : ∀ f, spA (arF M w) (fun v => v = s_now M) (2 * z_nR M) 9999 f → K (ovl q A (aU s 6 f) h0)) : MM G Y_X2_spreadsNow cX2_spreadsNow 2 0 0 [.ref q, .int (bI w)] (ovl q A s h0) (kV K) xN := by
  obtain ⟨h1, h2⟩ := s_now_lt hw hR
  have h3 := wf_st hw
  refine m_X2_spreadsNow hG (Nat.le_refl 0) (Nat.le_refl 0) ?_
  unfold f_X2_spreadsNow
  rw [gR_m0, ga2 hd, gr_at hg hR, gR_m0, ga3 hd, gr_st hg, nI_par (by omega), rv_m]
  exact dV_0 (mx_spreads hG hd hg hw h1 h2 k)
theorem mx_doorsOf {r : Nat} {K : Int32 → Hp → Prop} (hG : Base G) (hd : Dis q A) (hg : gRep (s.1 0) M) (hw : wf M N) (hr : r < z_nR M) (k : K (nI (cnt (fun d => d_isAt (z_dr M d) r) (z_nD M))) (ovl q A s h0)) : MM G Y_X2_doorsOf cX2_doorsOf 4 0 0 [.ref q, .int (nI r)] (ovl q A s h0) (kI K) xN := by
  have hD := wf_nD hw
  have hR := wf_nR hw
  refine b_X2_doorsOf hG (fun E => s_X2_doorsOf_0 hG (Nat.le_refl _) (Nat.le_refl _) ?_)
  have key : ∀ j, j ≤ z_nD M → V G E Y_X2_doorsOf cX2_doorsOf 4 (QM G E (kI K) xN) (ovl q A s h0) 0 0 4 [(0, .ref q), (1, .int (nI r)), (2, .int (nI (cnt (fun d => d_isAt (z_dr M d) r) j))), (3, .int (nI j))] [] := by
    refine up_to ?_ (fun j hj ih => ?_)
    · refine s_X2_doorsOf_4 hG (Nat.le_refl _) (Nat.le_refl _) ?_
      unfold g_X2_doorsOf_4
      rw [gR_m0, ga1 hd, gr_nD hg]
      exact ⟨fun _ => k, fun e => absurd (nI_le (Nat.le_refl _) (by omega)) e⟩
    · refine s_X2_doorsOf_4 hG (Nat.le_refl _) (Nat.le_refl _) ?_
      unfold g_X2_doorsOf_4
      rw [gR_m0, ga1 hd, gr_nD hg]
      refine ⟨fun e => absurd e (nI_ge hj (by omega)), fun _ => ?_⟩
      rw [rv_m, show (0 : Int32) = nI 0 from rfl, nI_add, nI_1, nI_1]
      refine mx_isAt hd hg hw (by omega) hj (bI_z (fun e => ?_) (fun e => ?_))
      · rw [show cnt (fun d => d_isAt (z_dr M d) r) j + 0 = cnt (fun d => d_isAt (z_dr M d) r) (j + 1) by show _ = _ + _; rw [if_neg e]]; exact ih
      · rw [show cnt (fun d => d_isAt (z_dr M d) r) j + 1 = cnt (fun d => d_isAt (z_dr M d) r) (j + 1) by show _ = _ + _; rw [if_pos e]]; exact ih
  exact key 0 (Nat.zero_le _)
theorem mx_canGo {K : Int32 → Hp → Prop} (hG : Base G) (hd : Dis q A) (hg : gRep (s.1 0) M) (hw : wf M N) (hN : N < 2 ^ 29) (k : K (nI (cnt (fun d => d_isAt (z_dr M d) (z_at M) ∧ d_sh (z_dr M d) = 0 ∧ d_for (z_dr M d) (z_st M + z_need M (z_at M))) (z_nD M))) (ovl q A s h0)) : MM G Y_X2_canGo cX2_canGo 3 0 0 [.ref q] (ovl q A s h0) (kI K) xN := by
  have hD := wf_nD hw
  have hR := wf_nR hw
  have hst := wf_st hw
  refine b_X2_canGo hG (fun E => s_X2_canGo_0 hG (Nat.le_refl _) (Nat.le_refl _) ?_)
  have key : ∀ j, j ≤ z_nD M → V G E Y_X2_canGo cX2_canGo 3 (QM G E (kI K) xN) (ovl q A s h0) 0 0 4 [(0, .ref q), (1, .int (nI (cnt (fun d => d_isAt (z_dr M d) (z_at M) ∧ d_sh (z_dr M d) = 0 ∧ d_for (z_dr M d) (z_st M + z_need M (z_at M))) j))), (2, .int (nI j))] [] := by
    refine up_to ?_ (fun j hj ih => ?_)
    · refine s_X2_canGo_4 hG (Nat.le_refl _) (Nat.le_refl _) ?_
      unfold g_X2_canGo_4
      rw [gR_m0, ga1 hd, gr_nD hg]
      exact ⟨fun _ => k, fun e => absurd (nI_le (Nat.le_refl _) (by omega)) e⟩
    · obtain ⟨w1, w2, -, -, w5, -⟩ := wf_d hw hj
      have hat : z_at M < z_nR M := by have := wf_at hw; omega
      have hne := z_need_pos M (z_at M)
      have no : ¬ (d_isAt (z_dr M j) (z_at M) ∧ d_sh (z_dr M j) = 0 ∧ d_for (z_dr M j) (z_st M + z_need M (z_at M))) → V G E Y_X2_canGo cX2_canGo 3 (QM G E (kI K) xN) (ovl q A s h0) 0 0 4 [(0, .ref q), (1, .int (nI (cnt (fun d => d_isAt (z_dr M d) (z_at M) ∧ d_sh (z_dr M d) = 0 ∧ d_for (z_dr M d) (z_st M + z_need M (z_at M))) j) + 0)), (2, .int (nI j + 1))] [] := by
        intro e
        rw [show (0 : Int32) = nI 0 from rfl, nI_add, nI_1, show cnt (fun d => d_isAt (z_dr M d) (z_at M) ∧ d_sh (z_dr M d) = 0 ∧ d_for (z_dr M d) (z_st M + z_need M (z_at M))) j + 0 = cnt (fun d => d_isAt (z_dr M d) (z_at M) ∧ d_sh (z_dr M d) = 0 ∧ d_for (z_dr M d) (z_st M + z_need M (z_at M))) (j + 1) by show _ = _ + _; rw [if_neg e]]
        exact ih
      refine s_X2_canGo_4 hG (Nat.le_refl _) (Nat.le_refl _) ?_
      unfold g_X2_canGo_4
      rw [gR_m0, ga1 hd, gr_nD hg]
      refine ⟨fun e => absurd e (nI_ge hj (by omega)), fun _ => ?_⟩
      rw [gR_m0, ga2 hd, gr_at hg (by omega), rv_m]
      refine mx_isAt hd hg hw (by omega) hj (bI_z (fun e => no (fun z => e z.1)) (fun e => ?_))
      rw [rv_m]
      refine mx_sh hd hg hw hj ⟨fun e2 => no (fun z => e2 (by rw [z.2.1]; rfl)), fun e2 => ?_⟩
      rw [show (0 : Int32) = nI 0 from rfl, nI_is (by omega) (by omega)] at e2
      rw [gR_m0, ga3 hd, gr_st hg, gR_m0, ga2 hd, gr_at hg (by omega), rv_m]
      refine mx_needs hd hg hw hat ?_
      rw [rv_m, nI_add]
      refine mx_isFor hd hg hw hj (by omega) (bI_z (fun e3 => no (fun z => e3 z.2.2)) (fun e3 => ?_))
      rw [nI_1, nI_1, show cnt (fun d => d_isAt (z_dr M d) (z_at M) ∧ d_sh (z_dr M d) = 0 ∧ d_for (z_dr M d) (z_st M + z_need M (z_at M))) j + 1 = cnt (fun d => d_isAt (z_dr M d) (z_at M) ∧ d_sh (z_dr M d) = 0 ∧ d_for (z_dr M d) (z_st M + z_need M (z_at M))) (j + 1) by show _ = _ + _; rw [if_pos ⟨e, e2, e3⟩]]
      exact ih
  exact key 0 (Nat.zero_le _)
theorem mx_walker {x : Int32} {K : Int32 → Hp → Prop} (hG : Base G) (hd : Dis q A) (hg : gRep (s.1 0) M) (hw : wf M N) (hN : N < 2 ^ 29) (k : K (rWalker M x) (ovl q A s h0)) : f_X2_walker G (ovl q A s h0) 0 0 (some q) x K := by
  have hR := wf_nR hw
  unfold f_X2_walker
  refine Mz_inn (lo := 0) (hi := 5) rfl rfl (bI_y (fun c => ?_) (fun c => ?_))
  rotate_left
  · rw [rWalker, if_neg c] at k; exact k
  obtain ⟨n, hn, rfl⟩ := inn_n (b := 5) c.1 c.2
  rw [rWalker, if_pos c, nN_nI (by omega)] at k
  rw [show (0 : Int32) = nI 0 from rfl, show (5 : Int32) = nI 5 from rfl, nI_is (by omega) (by omega), nI_is (by omega) (by omega)]
  refine ⟨fun e => ⟨fun e2 => ?_, fun e2 => ?_⟩, fun e => ?_⟩
  · rw [if_neg e] at k
    rw [gR_m0, show (3 : Int32) = nI 3 from rfl, nI_add, show (1 : Int32) = nI 1 from rfl, pk_sub (by omega), ga hd (by omega)]
    by_cases e1 : n = 1
    · rw [if_pos e1] at k
      subst e1
      rw [show s.1 0 (3 + 1 - 1) = nI (z_st M) from gr_st hg]; exact k
    · rw [if_neg e1, if_pos (by omega)] at k
      rw [show 3 + n - 1 = 4 + (n - 2) by omega, gr_hd hg (by omega)]; exact k
  · rw [if_neg e, if_neg (by omega), if_neg (by omega)] at k
    rw [rv_m]
    exact dI_0 (mx_canGo hG hd hg hw hN k)
  · rw [if_pos e] at k
    rw [gR_m0, show (nI 0 : Int32) = 0 from rfl, ga0 hd, gr_nR hg, show (0 : Int32) = nI 0 from rfl, nI_is (by omega) (by omega)]
    refine ⟨fun e2 => ?_, fun e2 => ?_⟩
    · rw [if_neg e2] at k
      rw [gR_m0, ga2 hd, gr_at hg (by omega)]; exact k
    · rw [if_pos e2] at k; exact k
theorem mx_doorOf {x y : Int32} {K : Int32 → Hp → Prop} (hd : Dis q A) (hg : gRep (s.1 0) M) (hw : wf M N) (k : K (rDoorOf M x y) (ovl q A s h0)) : f_X2_doorOf G (ovl q A s h0) (some q) x y K := by
  have hD := wf_nD hw
  unfold f_X2_doorOf
  rw [rv_m]
  refine mx_isDoor hd hg hw (bI_y (fun c => ?_) (fun c => ?_))
  rotate_left
  · rw [rDoorOf, if_neg c] at k; exact k
  refine Mz_inn (lo := 0) (hi := 5) rfl rfl (bI_z (fun c2 => ?_) (fun c2 => ?_))
  · rw [rDoorOf, if_pos c, if_neg c2] at k; exact k
  obtain ⟨d, hdd, rfl⟩ := ix_n c
  obtain ⟨w, hw5, rfl⟩ := inn_n (b := 5) c2.1 c2.2
  rw [rDoorOf, if_pos c, if_pos c2, nN_nI (by omega), nN_nI (by omega), rDo] at k
  obtain ⟨y1, y2, y3, y4, y5, y6⟩ := gr_d hg hdd
  rw [rv_m]
  refine mx_of hd hg hw hdd (by omega) ?_
  by_cases e0 : w = 0
  · rw [if_pos e0] at k; subst e0; rw [show s.1 0 (50 + 6 * d + 0) = nI (d_lo (z_dr M d)) from y1]; exact k
  rw [if_neg e0] at k
  by_cases e1 : w = 1
  · rw [if_pos e1] at k; subst e1; rw [y2]; exact k
  rw [if_neg e1] at k
  by_cases e2 : w = 2
  · rw [if_pos e2] at k; subst e2; rw [y3]; exact k
  rw [if_neg e2] at k
  by_cases e3 : w = 3
  · rw [if_pos e3] at k; subst e3; rw [y4]; exact k
  rw [if_neg e3] at k
  by_cases e4 : w = 4
  · rw [if_pos e4] at k; subst e4; rw [y5]; exact k
  rw [if_neg e4] at k
  rw [show w = 5 by omega, y6]; exact k
theorem fwO_9 {o : Option Nat} (h : ∀ c, o = some c → c ≤ 40) : ((9999 : Int32) ≤ nI (o.getD 9999) ↔ o = none) := by
  rw [show (9999 : Int32) = nI 9999 from rfl, nI_leI (by omega) (by have := fw_le h; omega)]
  cases o with
  | none => exact ⟨fun _ => rfl, fun _ => Nat.le_refl _⟩
  | some c => have := h c rfl; exact ⟨fun z => by have z : 9999 ≤ c := z; omega, fun z => by cases z⟩
theorem mx_isDoubled {r : Nat} {K : Int32 → Hp → Prop} (hG : Base G) (hd : Dis q A) (ho : oRep s O) (hw : wfO O N) (hN : N < 2 ^ 29) (hr : r < z_nR (o_c O)) (k : ∀ s', oRep s' O → Fr s s' → K (bI (dbl (o_c O) r = true)) (ovl q A s' h0)) : MM G Y_X2_isDoubled cX2_isDoubled 2 0 0 [.ref q, .int (nI r)] (ovl q A s h0) (kI K) xN := by
  have hg := ho.1
  have hR := wf_nR hw.1
  refine m_X2_isDoubled hG (Nat.le_refl 0) (Nat.le_refl 0) ?_
  unfold f_X2_isDoubled
  rw [rv_m]
  refine dV_0 (mx_spreadsNow (w := False) hG hd hg hw.1 hN (by omega) (fun f hf => ?_))
  have k := k _ (oRep_67 (f := f) ho (Or.inl rfl)) (Fr_a (Fr_r s) (by decide) (by decide))
  have a := hf (2 * r) (by omega)
  have b := hf (2 * r + 1) (by omega)
  rw [gR_m13, show (2 : Int32) = nI 2 from rfl, pk_mul, nI_1, s6 hd (by omega), aU_s, a.1]
  show ((9999 : Int32) ≤ nI ((dst (arF (o_c O) False) (fun v => v = s_now (o_c O)) (2 * r)).getD 9999) → _) ∧ _
  rw [fwO_9 a.2]
  unfold dbl dFw at k
  refine ⟨fun e => ?_, fun e => ?_⟩
  · rw [e] at k; exact k
  · rw [gR_m13, s6 hd (by omega), aU_s, b.1, fwO_9 b.2]
    refine ⟨fun e2 => ?_, fun e2 => ?_⟩
    · rw [e2, Option.isSome_none, Bool.and_false] at k; exact k
    · cases h1 : dst (arF (o_c O) False) (fun v => v = s_now (o_c O)) (2 * r) with
      | none => exact absurd h1 e
      | some c1 =>
        cases h2 : dst (arF (o_c O) False) (fun v => v = s_now (o_c O)) (2 * r + 1) with
        | none => exact absurd h2 e2
        | some c2 => rw [h1, h2] at k; exact k
theorem mx_roomOf {x y : Int32} {K : Int32 → Hp → Prop} (hG : Base G) (hd : Dis q A) (ho : oRep s O) (hw : wfO O N) (hN : N < 2 ^ 29) (k : ∀ s', oRep s' O → Fr s s' → K (rRoomOf (o_c O) x y) (ovl q A s' h0)) : f_X2_roomOf G (ovl q A s h0) 0 0 (some q) x y K := by
  have hg := ho.1
  have hR := wf_nR hw.1
  unfold f_X2_roomOf
  rw [rv_m]
  refine mx_isRoom hd hg hw.1 (bI_y (fun c => ?_) (fun c => ?_))
  rotate_left
  · rw [rRoomOf, if_neg c] at k; exact k s ho (Fr_r s)
  refine Mz_inn (lo := 0) (hi := 6) rfl rfl (bI_y (fun c2 => ?_) (fun c2 => ?_))
  rotate_left
  · rw [rRoomOf, if_pos c, if_neg c2] at k; exact k s ho (Fr_r s)
  obtain ⟨r, hr, rfl⟩ := ix_n c
  obtain ⟨w, hw6, rfl⟩ := inn_n (b := 6) c2.1 c2.2
  rw [rRoomOf, if_pos c, if_pos c2, nN_nI (by omega), nN_nI (by omega), rRo] at k
  rw [show (4 : Int32) = nI 4 from rfl, show (5 : Int32) = nI 5 from rfl, nI_leI (by omega) (by omega), nI_is (by omega) (by omega), nI_is (by omega) (by omega)]
  refine ⟨fun e => ⟨fun e1 => ⟨fun e2 => ?_, fun e2 => ?_⟩, fun e1 => ?_⟩, fun e => ?_⟩
  · rw [if_neg (by omega), if_neg (by omega), if_neg (by omega), if_neg (by omega)] at k
    rw [rv_m]
    refine dV_0 (mx_spreadsNow (w := True) hG hd hg hw.1 hN (by omega) (fun f hf => ?_))
    rw [rv_m]
    refine mx_fwq (w := True) (s0 := s_now (o_c O)) hd hR hr (by rw [aU_s]; exact hf) (fun _ => ?_)
    exact k _ (oRep_67 ho (Or.inl rfl)) (Fr_a (Fr_r s) (by decide) (by decide))
  · rw [if_neg (by omega), if_neg (by omega), if_neg (by omega), if_pos e2] at k
    rw [rv_m]
    refine dI_0 (mx_isDoubled hG hd ho hw hN hr (fun s' h1 h2 => ?_))
    have k := k s' h1 h2
    exact bI_z (fun z => by rw [if_neg z] at k; exact k) (fun z => by rw [if_pos z] at k; exact k)
  · rw [if_neg (by omega), if_neg (by omega), if_pos e1] at k
    rw [rv_m]
    exact dI_0 (mx_doorsOf hG hd hg hw.1 hr (k s ho (Fr_r s)))
  · rw [gR_m0, show (nI 4 : Int32) = 4 from rfl, gx_room, nI_add, ga hd (by omega)]
    by_cases e1 : w = 0
    · rw [if_pos e1] at k
      subst e1
      rw [show s.1 0 (10 + 4 * r + 0) = nI (z_oil (o_c O) r) from gr_oil hg hr]
      exact k s ho (Fr_r s)
    · rw [if_neg e1, if_pos (by omega)] at k
      rw [show 10 + 4 * r + w = 10 + 4 * r + 1 + (w - 1) by omega, gr_key hg hr (by omega)]
      exact k s ho (Fr_r s)
end SP
