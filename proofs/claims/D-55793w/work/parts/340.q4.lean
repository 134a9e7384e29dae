/-! THE MODEL'S ACCOUNTS -/
set_option maxRecDepth 100000
def zLit (M : Mz) : Nat := cnt (fun r => 0 < z_oil M r) (z_nR M)
def zShut (M : Mz) : Nat := sm (fun d => d_sh (z_dr M d)) (z_nD M)
def zLie (M : Mz) : Nat := sm (fun r => z_key M r 0 + z_key M r 1 + z_key M r 2) (z_nR M)
def zHand (M : Mz) : Nat := z_hd M 0 + z_hd M 1 + z_hd M 2
def zOil (M : Mz) : Nat := sm (z_oil M) (z_nR M)
noncomputable def zDbl (M : Mz) : Nat := cnt (fun r => dbl M r = true) (z_nR M)
theorem sm_le {f : Nat → Nat} {b n : Nat} (h : ∀ r, r < n → f r ≤ b) : sm f n ≤ b * n := by
  induction n with
  | zero => exact Nat.le_refl _
  | succ n ih =>
    have := ih (fun r hr => h r (by omega))
    have := h n (by omega)
    show sm f n + f n ≤ b * (n + 1)
    rw [Nat.mul_succ]; omega
def rBal (M : Mz) : Int32 := if z_la M = zLie M + zHand M + z_us M then 1 else 0
def rMean (M : Mz) : UInt64 := if z_nR M = 0 then FP.dconst0 else FP.ddiv (FP.i2d (nI (zOil M))) (FP.i2d (nI (z_nR M)))
noncomputable def rShare (M : Mz) : UInt32 := if z_nR M = 0 then FP.fconst0 else FP.fdiv (FP.i2f (nI (zDbl M))) (FP.i2f (nI (z_nR M)))
def rAcc (O : Ou) (x : Int32) : Int32 := if inn x 0 11 then (if nN x = 0 then nI (z_nR (o_c O)) else if nN x = 1 then nI (z_nD (o_c O)) else if nN x = 2 then nI (zLit (o_c O)) else if nN x = 3 then nI (zShut (o_c O)) else if nN x = 4 then nI (z_la (o_c O)) else if nN x = 5 then nI (zLie (o_c O)) else if nN x = 6 then nI (zHand (o_c O)) else if nN x = 7 then nI (z_us (o_c O)) else if nN x = 8 then nI (zOil (o_c O)) else if nN x = 9 then nI (z_go (o_c O)) else if nN x = 10 then nI (o_t O).length else nI (o_p O).length) else -1012
section SP
variable {G : Gt} {q : Nat} {A : Nat → Nat} {s : MS} {h0 : Hp} {N : Nat} {M : Mz} {O : Ou}
theorem mx_lit {K : Int32 → Hp → Prop} (hG : Base G) (hd : Dis q A) (hg : gRep (s.1 0) M) (hw : wf M N) (k : K (nI (zLit M)) (ovl q A s h0)) : MM G Y_X2_lit cX2_lit 3 0 0 [.ref q] (ovl q A s h0) (kI K) xN := by
  have hR := wf_nR hw
  refine b_X2_lit hG (fun E => s_X2_lit_0 hG (Nat.le_refl _) (Nat.le_refl _) ?_)
  have key : ∀ j, j ≤ z_nR M → V G E Y_X2_lit cX2_lit 3 (QM G E (kI K) xN) (ovl q A s h0) 0 0 4 [(0, .ref q), (1, .int (nI (cnt (fun r => 0 < z_oil M r) j))), (2, .int (nI j))] [] := by
    refine up_to ?_ (fun j hj ih => ?_)
    · refine s_X2_lit_4 hG (Nat.le_refl _) (Nat.le_refl _) ?_
      unfold g_X2_lit_4
      rw [gR_m0, ga0 hd, gr_nR hg]
      exact ⟨fun _ => k, fun e => absurd (nI_le (Nat.le_refl _) (by omega)) e⟩
    · have := wf_oil hw hj
      refine s_X2_lit_4 hG (Nat.le_refl _) (Nat.le_refl _) ?_
      unfold g_X2_lit_4
      rw [gR_m0, ga0 hd, gr_nR hg]
      refine ⟨fun e => absurd e (nI_ge hj (by omega)), fun _ => ?_⟩
      rw [rv_m, show (0 : Int32) = nI 0 from rfl, nI_add, nI_1, nI_1]
      refine mx_oilOf hd hg hw hj ?_
      rw [nI_leI (by omega) (by omega)]
      refine ⟨fun e => ?_, fun e => ?_⟩
      · rw [show cnt (fun r => 0 < z_oil M r) j + 0 = cnt (fun r => 0 < z_oil M r) (j + 1) by show _ = _ + _; rw [if_neg (by omega)]]; exact ih
      · rw [show cnt (fun r => 0 < z_oil M r) j + 1 = cnt (fun r => 0 < z_oil M r) (j + 1) by show _ = _ + _; rw [if_pos (by omega)]]; exact ih
  exact key 0 (Nat.zero_le _)
theorem mx_shut {K : Int32 → Hp → Prop} (hG : Base G) (hd : Dis q A) (hg : gRep (s.1 0) M) (hw : wf M N) (k : K (nI (zShut M)) (ovl q A s h0)) : MM G Y_X2_shut cX2_shut 3 0 0 [.ref q] (ovl q A s h0) (kI K) xN := by
  have hD := wf_nD hw
  refine b_X2_shut hG (fun E => s_X2_shut_0 hG (Nat.le_refl _) (Nat.le_refl _) ?_)
  have key : ∀ j, j ≤ z_nD M → V G E Y_X2_shut cX2_shut 3 (QM G E (kI K) xN) (ovl q A s h0) 0 0 4 [(0, .ref q), (1, .int (nI (sm (fun d => d_sh (z_dr M d)) j))), (2, .int (nI j))] [] := by
    refine up_to ?_ (fun j hj ih => ?_)
    · refine s_X2_shut_4 hG (Nat.le_refl _) (Nat.le_refl _) ?_
      unfold g_X2_shut_4
      rw [gR_m0, ga1 hd, gr_nD hg]
      exact ⟨fun _ => k, fun e => absurd (nI_le (Nat.le_refl _) (by omega)) e⟩
    · refine s_X2_shut_4 hG (Nat.le_refl _) (Nat.le_refl _) ?_
      unfold g_X2_shut_4
      rw [gR_m0, ga1 hd, gr_nD hg]
      refine ⟨fun e => absurd e (nI_ge hj (by omega)), fun _ => ?_⟩
      rw [rv_m]
      refine mx_sh hd hg hw hj ?_
      rw [nI_add, nI_1]
      exact ih
  exact key 0 (Nat.zero_le _)
theorem mx_allOil {K : Int32 → Hp → Prop} (hG : Base G) (hd : Dis q A) (hg : gRep (s.1 0) M) (hw : wf M N) (k : K (nI (zOil M)) (ovl q A s h0)) : MM G Y_X2_allOil cX2_allOil 3 0 0 [.ref q] (ovl q A s h0) (kI K) xN := by
  have hR := wf_nR hw
  refine b_X2_allOil hG (fun E => s_X2_allOil_0 hG (Nat.le_refl _) (Nat.le_refl _) ?_)
  have key : ∀ j, j ≤ z_nR M → V G E Y_X2_allOil cX2_allOil 3 (QM G E (kI K) xN) (ovl q A s h0) 0 0 4 [(0, .ref q), (1, .int (nI (sm (z_oil M) j))), (2, .int (nI j))] [] := by
    refine up_to ?_ (fun j hj ih => ?_)
    · refine s_X2_allOil_4 hG (Nat.le_refl _) (Nat.le_refl _) ?_
      unfold g_X2_allOil_4
      rw [gR_m0, ga0 hd, gr_nR hg]
      exact ⟨fun _ => k, fun e => absurd (nI_le (Nat.le_refl _) (by omega)) e⟩
    · refine s_X2_allOil_4 hG (Nat.le_refl _) (Nat.le_refl _) ?_
      unfold g_X2_allOil_4
      rw [gR_m0, ga0 hd, gr_nR hg]
      refine ⟨fun e => absurd e (nI_ge hj (by omega)), fun _ => ?_⟩
      rw [rv_m]
      refine mx_oilOf hd hg hw hj ?_
      rw [nI_add, nI_1]
      exact ih
  exact key 0 (Nat.zero_le _)
theorem mx_lying {K : Int32 → Hp → Prop} (hG : Base G) (hd : Dis q A) (hg : gRep (s.1 0) M) (hw : wf M N) (k : K (nI (zLie M)) (ovl q A s h0)) : MM G Y_X2_lying cX2_lying 4 0 0 [.ref q] (ovl q A s h0) (kI K) xN := by
  have hR := wf_nR hw
  refine b_X2_lying hG (fun E => s_X2_lying_0 hG (Nat.le_refl _) (Nat.le_refl _) ?_)
  have key : ∀ j, j ≤ z_nR M → V G E Y_X2_lying cX2_lying 4 (QM G E (kI K) xN) (ovl q A s h0) 0 0 4 [(0, .ref q), (1, .int (nI (sm (fun r => z_key M r 0 + z_key M r 1 + z_key M r 2) j))), (2, .int (nI j))] [] := by
    refine up_to ?_ (fun j hj ih => ?_)
    · refine s_X2_lying_4 hG (Nat.le_refl _) (Nat.le_refl _) ?_
      unfold g_X2_lying_4
      rw [gR_m0, ga0 hd, gr_nR hg]
      exact ⟨fun _ => k, fun e => absurd (nI_le (Nat.le_refl _) (by omega)) e⟩
    · refine s_X2_lying_4 hG (Nat.le_refl _) (Nat.le_refl _) ?_
      unfold g_X2_lying_4
      rw [gR_m0, ga0 hd, gr_nR hg]
      refine ⟨fun e => absurd e (nI_ge hj (by omega)), fun _ => ?_⟩
      have inner : ∀ c, c ≤ 3 → V G E Y_X2_lying cX2_lying 4 (QM G E (kI K) xN) (ovl q A s h0) 0 0 16 [(0, .ref q), (1, .int (nI (sm (fun r => z_key M r 0 + z_key M r 1 + z_key M r 2) j + sm (z_key M j) c))), (2, .int (nI j)), (3, .int (nI c))] [] := by
        refine up_to ?_ (fun c hc ih2 => ?_)
        · refine s_X2_lying_16 hG (Nat.le_refl _) (Nat.le_refl _) ⟨fun _ => ?_, fun e => absurd (nI_le (Nat.le_refl 3) (by decide)) e⟩
          rw [nI_1, show sm (fun r => z_key M r 0 + z_key M r 1 + z_key M r 2) j + sm (z_key M j) 3 = sm (fun r => z_key M r 0 + z_key M r 1 + z_key M r 2) (j + 1) by
            show _ + (((0 + z_key M j 0) + z_key M j 1) + z_key M j 2) = _ + (z_key M j 0 + z_key M j 1 + z_key M j 2)
            rw [Nat.zero_add]]
          exact ih
        · refine s_X2_lying_16 hG (Nat.le_refl _) (Nat.le_refl _) ⟨fun e => absurd e (nI_ge hc (by decide)), fun _ => ?_⟩
          rw [gR_m0, gx_key, ga hd (by omega), gr_key hg hj hc, nI_add, nI_1, Nat.add_assoc]
          exact ih2
      exact inner 0 (Nat.zero_le _)
  exact key 0 (Nat.zero_le _)
theorem mx_inHand {K : Int32 → Hp → Prop} (hd : Dis q A) (hg : gRep (s.1 0) M) (k : K (nI (zHand M)) (ovl q A s h0)) : f_X2_inHand G (ovl q A s h0) (some q) K := by
  unfold f_X2_inHand
  rw [gR_m0, show (4 : Int32) = nI (4 + 0) from rfl, ga hd (by decide), gR_m0, show (5 : Int32) = nI (4 + 1) from rfl, ga hd (by decide), gR_m0, show (6 : Int32) = nI (4 + 2) from rfl, ga hd (by decide), gr_hd hg (by decide), gr_hd hg (by decide), gr_hd hg (by decide), nI_add, nI_add]
  exact k
theorem mx_account {x : Int32} {K : Int32 → Hp → Prop} (hG : Base G) (hd : Dis q A) (ho : oRep s O) (hw : wfO O N) (k : K (rAcc O x) (ovl q A s h0)) : f_X2_account G (ovl q A s h0) 0 0 (some q) x K := by
  have hg := ho.1
  have tr : ∀ n : Nat, n ≤ 11 → x = nI n → inn x 0 11 ∧ nN x = n := by
    intro n hn e
    subst e
    refine ⟨?_, nN_nI (by omega)⟩
    unfold inn; rw [nI_toInt (by omega)]; omega
  unfold f_X2_account
  refine ⟨fun e => ?_, fun e => ?_, fun e => ?_, fun e => ?_, fun e => ?_, fun e => ?_, fun e => ?_, fun e => ?_, fun e => ?_, fun e => ?_, fun e => ?_, fun e => ?_, fun e => ?_⟩
  · obtain ⟨t1, t2⟩ := tr 0 (by decide) e
    rw [rAcc, if_pos t1, t2] at k
    rw [gR_m0, ga0 hd, gr_nR hg]; exact k
  · obtain ⟨t1, t2⟩ := tr 1 (by decide) e
    rw [rAcc, if_pos t1, t2] at k
    rw [gR_m0, ga1 hd, gr_nD hg]; exact k
  · obtain ⟨t1, t2⟩ := tr 2 (by decide) e
    rw [rAcc, if_pos t1, t2] at k
    rw [rv_m]; exact dI_0 (mx_lit hG hd hg hw.1 k)
  · obtain ⟨t1, t2⟩ := tr 3 (by decide) e
    rw [rAcc, if_pos t1, t2] at k
    rw [rv_m]; exact dI_0 (mx_shut hG hd hg hw.1 k)
  · obtain ⟨t1, t2⟩ := tr 4 (by decide) e
    rw [rAcc, if_pos t1, t2] at k
    rw [gR_m0, ga7 hd, gr_la hg]; exact k
  · obtain ⟨t1, t2⟩ := tr 5 (by decide) e
    rw [rAcc, if_pos t1, t2] at k
    rw [rv_m]; exact dI_0 (mx_lying hG hd hg hw.1 k)
  · obtain ⟨t1, t2⟩ := tr 6 (by decide) e
    rw [rAcc, if_pos t1, t2] at k
    rw [rv_m]; exact mx_inHand hd hg k
  · obtain ⟨t1, t2⟩ := tr 7 (by decide) e
    rw [rAcc, if_pos t1, t2] at k
    rw [gR_m0, ga8 hd, gr_us hg]; exact k
  · obtain ⟨t1, t2⟩ := tr 8 (by decide) e
    rw [rAcc, if_pos t1, t2] at k
    rw [rv_m]; exact dI_0 (mx_allOil hG hd hg hw.1 k)
  · obtain ⟨t1, t2⟩ := tr 9 (by decide) e
    rw [rAcc, if_pos t1, t2] at k
    rw [gR_m0, ga9 hd, gr_go hg]; exact k
  · obtain ⟨t1, t2⟩ := tr 10 (by decide) e
    rw [rAcc, if_pos t1, t2] at k
    rw [gI_m10, ho.2.2.2.2.2.2.2.1]; exact k
  · obtain ⟨t1, t2⟩ := tr 11 (by decide) e
    rw [rAcc, if_pos t1, t2] at k
    rw [gI_m5, ho.2.1]; exact k
  · rw [rAcc, if_neg (by unfold inn; omega)] at k; exact k
theorem zLie_le (hw : wf M N) : zLie M ≤ 27 * z_nR M := sm_le (fun r hr => by have := wf_key hw hr (c := 0) (by decide); have := wf_key hw hr (c := 1) (by decide); have := wf_key hw hr (c := 2) (by decide); omega)
theorem zHand_le (hw : wf M N) : zHand M ≤ 27 := by have := wf_hd hw (c := 0) (by decide); have := wf_hd hw (c := 1) (by decide); have := wf_hd hw (c := 2) (by decide); unfold zHand; omega
theorem zOil_le (hw : wf M N) : zOil M ≤ 50 * z_nR M := sm_le (fun r hr => wf_oil hw hr)
theorem mx_isBalanced {K : Int32 → Hp → Prop} (hG : Base G) (hd : Dis q A) (hg : gRep (s.1 0) M) (hw : wf M N) (hN : N < 2 ^ 29) (k : K (rBal M) (ovl q A s h0)) : f_X2_isBalanced G (ovl q A s h0) 0 0 (some q) K := by
  have h1 := zLie_le hw
  have h2 := zHand_le hw
  have h3 := wf_nR hw
  have h4 := wf_la hw
  have h5 := wf_us hw
  unfold f_X2_isBalanced
  rw [gR_m0, ga7 hd, gr_la hg, rv_m]
  refine dI_0 (mx_lying hG hd hg hw ?_)
  rw [rv_m]
  refine mx_inHand hd hg ?_
  rw [gR_m0, ga8 hd, gr_us hg, nI_add, nI_add, nI_is (by omega) (by omega)]
  unfold rBal at k
  exact ⟨fun e => by rw [if_neg e] at k; exact k, fun e => by rw [if_pos e] at k; exact k⟩
theorem rMean_n (hw : wf M N) (h : 0 < z_nR M) : vf_n64 (FP.ddiv (FP.i2d (nI (zOil M))) (FP.i2d (nI (z_nR M)))) := by
  have h1 := zOil_le hw
  have h3 := wf_nR hw
  have := vf_mean ⟨zOil M, by omega⟩ ⟨z_nR M - 1, by omega⟩
  rw [show z_nR M = z_nR M - 1 + 1 by omega]
  exact this
theorem rShare_n {n : Nat} (hw : wf M N) (h : 0 < z_nR M) (hn : n ≤ z_nR M) : vf_n32 (FP.fdiv (FP.i2f (nI n)) (FP.i2f (nI (z_nR M)))) := by
  have h3 := wf_nR hw
  have := vf_share ⟨n, by omega⟩ ⟨z_nR M - 1, by omega⟩
  rw [show z_nR M = z_nR M - 1 + 1 by omega]
  exact this
theorem mx_meanOil {K : UInt64 → Hp → Prop} (hG : Base G) (hd : Dis q A) (hg : gRep (s.1 0) M) (hw : wf M N) (k : K (rMean M) (ovl q A s h0)) : f_X2_meanOil G (ovl q A s h0) 0 0 (some q) K := by
  have h3 := wf_nR hw
  unfold f_X2_meanOil
  unfold rMean at k
  rw [gR_m0, ga0 hd, gr_nR hg, show (0 : Int32) = nI 0 from rfl, nI_is (by omega) (by omega)]
  refine ⟨fun e => ?_, fun e => ?_⟩
  · rw [if_neg e] at k
    rw [rv_m]
    refine dI_0 (mx_allOil hG hd hg hw ?_)
    rw [gR_m0, show (nI 0 : Int32) = 0 from rfl, ga0 hd, gr_nR hg]
    exact ⟨rMean_n hw (by omega), k⟩
  · rw [if_pos e] at k; exact k
theorem mx_doubledShare {K : UInt32 → Hp → Prop} (hG : Base G) (hd : Dis q A) (ho : oRep s O) (hw : wfO O N) (hN : N < 2 ^ 29) (k : ∀ s', oRep s' O → Fr s s' → K (rShare (o_c O)) (ovl q A s' h0)) : MM G Y_X2_doubledShare cX2_doubledShare 3 0 0 [.ref q] (ovl q A s h0) (kF K) xN := by
  have hg := ho.1
  have h3 := wf_nR hw.1
  refine b_X2_doubledShare hG (fun E => s_X2_doubledShare_0 hG (Nat.le_refl _) (Nat.le_refl _) ?_)
  unfold g_X2_doubledShare_0
  unfold rShare at k
  rw [gR_m0, ga0 hd, gr_nR hg, show (0 : Int32) = nI 0 from rfl, nI_is (by omega) (by omega)]
  refine ⟨fun e => ?_, fun e => ?_⟩
  rotate_left
  · rw [if_pos e] at k; exact k s ho (Fr_r s)
  rw [if_neg e] at k
  have key : ∀ j, j ≤ z_nR (o_c O) → ∀ s', oRep s' O → Fr s s' → V G E Y_X2_doubledShare cX2_doubledShare 3 (QM G E (kF K) xN) (ovl q A s' h0) 0 0 15 [(0, .ref q), (1, .int (nI (cnt (fun r => dbl (o_c O) r = true) j))), (2, .int (nI j))] [] := by
    refine up_to (fun s' ho2 hf2 => ?_) (fun j hj ih s' ho2 hf2 => ?_)
    · refine s_X2_doubledShare_15 hG (Nat.le_refl _) (Nat.le_refl _) ?_
      unfold g_X2_doubledShare_15
      rw [gR_m0, ga0 hd, gr_nR ho2.1]
      refine ⟨fun _ => ?_, fun e => absurd (nI_le (Nat.le_refl _) (by omega)) e⟩
      rw [gR_m0, ga0 hd, gr_nR ho2.1]
      exact ⟨rShare_n hw.1 (by omega) (cnt_le _ _), k s' ho2 hf2⟩
    · refine s_X2_doubledShare_15 hG (Nat.le_refl _) (Nat.le_refl _) ?_
      unfold g_X2_doubledShare_15
      rw [gR_m0, ga0 hd, gr_nR ho2.1]
      refine ⟨fun e => absurd e (nI_ge hj (by omega)), fun _ => ?_⟩
      rw [rv_m]
      refine dI_0 (mx_isDoubled hG hd ho2 hw hN hj (fun s2 h1 h2 => ?_))
      have ih := ih s2 h1 (Fr_t hf2 h2)
      refine bI_z (fun e => ?_) (fun e => ?_)
      · rw [show (0 : Int32) = nI 0 from rfl, nI_add, nI_1, show cnt (fun r => dbl (o_c O) r = true) j + 0 = cnt (fun r => dbl (o_c O) r = true) (j + 1) by show _ = _ + _; rw [if_neg e]]; exact ih
      · rw [nI_1, nI_1, show cnt (fun r => dbl (o_c O) r = true) j + 1 = cnt (fun r => dbl (o_c O) r = true) (j + 1) by show _ = _ + _; rw [if_pos e]]; exact ih
  exact key 0 (Nat.zero_le _) s ho (Fr_r s)
end SP
