/-! THE MODEL'S CHANGING CALLS: burns, go, rest, take, open -/
set_option maxRecDepth 100000
def brn (M : Mz) (n j : Nat) : Mz := (M.1, (fun r => if r < j then z_oil M r - n else z_oil M r), M.2.2)
theorem brn_0 (M : Mz) (n : Nat) : brn M n 0 = M := by
  refine Prod.ext rfl (Prod.ext (funext fun r => ?_) rfl)
  show (if r < 0 then z_oil M r - n else z_oil M r) = z_oil M r
  exact if_neg (Nat.not_lt_zero _)
theorem brn_S (M : Mz) (n j : Nat) : sOil (brn M n j) j (z_oil M j - n) = brn M n (j + 1) := by
  refine Prod.ext rfl (Prod.ext (funext fun r => ?_) rfl)
  show upN (fun r => if r < j then z_oil M r - n else z_oil M r) j (z_oil M j - n) r = if r < j + 1 then z_oil M r - n else z_oil M r
  by_cases e : r = j
  · subst e; rw [upN_s, if_pos (by omega)]
  · rw [upN_n e]
    by_cases e2 : r < j
    · rw [if_pos e2, if_pos (by omega)]
    · rw [if_neg e2, if_neg (by omega)]
theorem brn_wf {M : Mz} {N n j : Nat} (hw : wf M N) : wf (brn M n j) N := by
  obtain ⟨w1, w2, w3, w4, w5, w6, w7, w8, w9, w10⟩ := hw
  refine ⟨w1, w2, fun r hr => ⟨?_, (w3 r hr).2⟩, w4, w5, w6, w7, w8, w9, w10⟩
  have := (w3 r hr).1
  show (if r < j then z_oil M r - n else z_oil M r) ≤ 50
  split <;> omega
theorem sBurn_g {M : Mz} {N n : Nat} {g g' : Nat → Int32} (hw : wf M N) (hg : gRep g (brn M n (z_nR M))) (e0 : g' 3 = nI (z_st M + n)) (ee : ∀ j, j ≠ 3 → g' j = g j) : gRep g' (sBurn M n) := by
  obtain ⟨h0, h1, h2, h3, h4, h5, h6, h7, h8, h9, h10⟩ := hg
  refine ⟨?_, ?_, ?_, e0, fun c hc => ?_, ?_, ?_, ?_, fun r hr => ⟨?_, fun c hc => ?_⟩, fun d hd => ?_, fun r c hr hr2 hc => ?_⟩
  · rw [ee _ (by omega)]; exact h0
  · rw [ee _ (by omega)]; exact h1
  · rw [ee _ (by omega)]; exact h2
  · rw [ee _ (by omega)]; exact h4 c hc
  · rw [ee _ (by omega)]; exact h5
  · rw [ee _ (by omega)]; exact h6
  · rw [ee _ (by omega)]; exact h7
  · rw [ee _ (by omega), (h8 r hr).1]
    show nI (if r < z_nR M then z_oil M r - n else z_oil M r) = _
    have hr : r < z_nR M := hr
    rw [if_pos hr]; rfl
  · rw [ee _ (by omega)]; exact (h8 r hr).2 c hc
  · rw [ee _ (by omega), ee _ (by omega), ee _ (by omega), ee _ (by omega), ee _ (by omega), ee _ (by omega)]; exact h9 d hd
  · rw [ee _ (by omega)]; exact h10 r c hr hr2 hc
section OP
variable {G : Gt} {q : Nat} {A : Nat → Nat} {s : MS} {h0 : Hp} {O : Ou} {N : Nat} {K : Int32 → Hp → Prop} {M : Mz}
theorem mx_burns {n : Nat} (hG : Base G) (hd : Dis q A) (hg : gRep (s.1 0) M) (hw : wf M N) (hN : N < 2 ^ 29) (hn : n < 2 ^ 20) (k : ∀ F, gRep F (sBurn M n) → K (nI (out M n)) (ovl q A (aU s 0 F) h0)) : MM G Y_X2_burns cX2_burns 5 0 0 [.ref q, .int (nI n)] (ovl q A s h0) (kI K) xN := by
  have hR := wf_nR hw
  refine b_X2_burns hG (fun E => s_X2_burns_0 hG (Nat.le_refl _) (Nat.le_refl _) ?_)
  have key : ∀ j, j ≤ z_nR M → ∀ F, gRep F (brn M n j) → V G E Y_X2_burns cX2_burns 5 (QM G E (kI K) xN) (ovl q A (aU s 0 F) h0) 0 0 4 [(0, .ref q), (1, .int (nI n)), (2, .int (nI (cnt (fun r => 0 < z_oil M r ∧ z_oil M r ≤ n) j))), (3, .int (nI j))] [] := by
    refine up_to (fun F hF => ?_) (fun j hj ih F hF => ?_)
    · refine s_X2_burns_4 hG (Nat.le_refl _) (Nat.le_refl _) ?_
      unfold g_X2_burns_4
      rw [gR_m0, ga0 hd, aU_s, gr_nR hF]
      refine ⟨fun _ => ?_, fun e => absurd (nI_le (Nat.le_refl _) (by show z_nR M < _; omega)) e⟩
      rw [gR_m0, ga3 hd, gs3 hd, aU_aU, aU_s]
      refine k _ (sBurn_g hw hF ?_ (fun j hj => pk_un hj))
      rw [pk_us, gr_st hF, nI_add]; rfl
    · have hwj : wf (brn M n j) N := brn_wf hw
      have hoj : z_oil (brn M n j) j = z_oil M j := if_neg (Nat.lt_irrefl _)
      have ho5 := wf_oil hw hj
      have hF2 : gRep (upd F (10 + 4 * j) (nI (z_oil M j - n))) (brn M n (j + 1)) := by
        rw [← brn_S]
        exact sOil_g hwj hF hj pk_us (fun i hi => pk_un hi)
      refine s_X2_burns_4 hG (Nat.le_refl _) (Nat.le_refl _) ?_
      unfold g_X2_burns_4
      rw [gR_m0, ga0 hd, aU_s, gr_nR hF]
      refine ⟨fun e => absurd e (nI_ge hj (by show z_nR M < _; omega)), fun _ => ?_⟩
      rw [rv_m]
      refine mx_oilOf (M := brn M n j) hd (by rw [aU_s]; exact hF) hwj hj ?_
      rw [hoj, gR_m0, gx_room, gs hd (by omega), gs hd (by omega), aU_aU, aU_aU, aU_s, show (0 : Int32) = nI 0 from rfl, nI_leI (by omega) (by omega), nI_leI (by omega) (by omega), nI_ltI (by omega) (by omega), nI_1, nI_1, nI_add]
      have nx : ∀ v, (v = cnt (fun r => 0 < z_oil M r ∧ z_oil M r ≤ n) (j + 1)) → ∀ F2, F2 = upd F (10 + 4 * j) (nI (z_oil M j - n)) → V G E Y_X2_burns cX2_burns 5 (QM G E (kI K) xN) (ovl q A (aU s 0 F2) h0) 0 0 4 [(0, .ref q), (1, .int (nI n)), (2, .int (nI v)), (3, .int (nI (j + 1)))] [] := by
        intro v hv F2 hF3
        subst hv; subst hF3
        exact ih _ hF2
      have cS : cnt (fun r => 0 < z_oil M r ∧ z_oil M r ≤ n) (j + 1) = cnt (fun r => 0 < z_oil M r ∧ z_oil M r ≤ n) j + if 0 < z_oil M j ∧ z_oil M j ≤ n then 1 else 0 := rfl
      refine ⟨fun e => ⟨fun e2 => ?_, fun e2 => ⟨fun e3 => ?_, fun e3 => ?_⟩⟩, fun e => ?_⟩
      · exact nx _ (by rw [cS, if_neg (by omega)]) _ (by rw [show z_oil M j - n = 0 by omega])
      · omega
      · exact nx _ (by rw [cS, if_pos (by omega)]) _ (by rw [show z_oil M j - n = 0 by omega])
      · rw [pk_sub (by omega)]
        refine ⟨fun e2 => ?_, fun e2 => ⟨fun e3 => ?_, fun e3 => ?_⟩⟩
        · omega
        · exact nx _ (by rw [cS, if_neg (by omega)]) _ rfl
        · omega
  have := key 0 (Nat.zero_le _) (s.1 0) (by rw [brn_0]; exact hg)
  rw [show aU s 0 (s.1 0) = s from Prod.ext (funext fun i => by by_cases e : i = 0; (subst e; exact aU_s); exact aU_n e) rfl] at this
  exact this
theorem mx_rest (hG : Base G) (hd : Dis q A) (ho : oRep s O) (hw : wfO O N) (hN : N < 2 ^ 29) {x : Int32} (k : ∀ s', oRep s' (apO O (opRest (o_c O) x)).2 → Fr s s' → K (apO O (opRest (o_c O) x)).1 (ovl q A s' h0)) : f_X2_rest G (ovl q A s h0) 0 0 (some q) x K := by
  have hg := ho.1
  have hR := wf_nR hw.1
  unfold f_X2_rest
  refine Mz_inn (lo := 1) (hi := 50) rfl rfl (bI_y (fun c => ?_) (fun c => ?_))
  rotate_left
  · rw [opRest, if_neg c] at k
    exact k s ho (Fr_r s)
  obtain ⟨n, hn, rfl⟩ := inn_n (b := 50) (by have := c.1; omega) c.2
  rw [opRest, if_pos c, nN_nI (by omega)] at k
  rw [gR_m0, ga0 hd, gr_nR hg, show (0 : Int32) = nI 0 from rfl, nI_is (by omega) (by omega)]
  refine ⟨fun e => ?_, fun e => ?_⟩
  rotate_left
  · rw [if_pos e] at k
    rw [rv_m]
    exact mx_refuses ho k
  rw [if_neg e] at k
  rw [gR_m0, rv_m]
  refine mx_kp hG hd ho hw (fun s' e0 hk hf => ?_)
  rw [rv_m]
  refine dI_0 (mx_burns hG hd (by rw [e0]; exact hg) hw.1 hN (by omega) (fun F hF => ?_))
  obtain ⟨f1, f2⟩ := mx_fin hk hf hF
  exact k _ f1 f2
theorem mx_take (hG : Base G) (hd : Dis q A) (ho : oRep s O) (hw : wfO O N) {x : Int32} (k : ∀ s', oRep s' (apO O (opTake (o_c O) x)).2 → Fr s s' → K (apO O (opTake (o_c O) x)).1 (ovl q A s' h0)) : f_X2_take G (ovl q A s h0) 0 0 (some q) x K := by
  have hg := ho.1
  have hR := wf_nR hw.1
  unfold f_X2_take
  refine mx_isColour (bI_y (fun c => ?_) (fun c => ?_))
  rotate_left
  · rw [opTake, if_neg c] at k
    exact k s ho (Fr_r s)
  obtain ⟨co, hc, rfl⟩ := ix_n c
  rw [opTake, if_pos c, nN_nI (by omega)] at k
  rw [gR_m0, ga0 hd, gr_nR hg, show (0 : Int32) = nI 0 from rfl, nI_is (by omega) (by omega)]
  refine ⟨fun e => ?_, fun e => ?_⟩
  rotate_left
  · rw [if_pos e] at k
    rw [rv_m]
    exact mx_refuses ho k
  rw [if_neg e] at k
  have hat : z_at (o_c O) < z_nR (o_c O) := by have := wf_at hw.1; omega
  have w1 := wf_key hw.1 hat hc
  have w2 := wf_hd hw.1 hc
  rw [gR_m0, ga2 hd, gr_at hg (by omega), gR_m0, gx_key, ga hd (by omega), gr_key hg hat hc, nI_is (by omega) (by omega)]
  refine ⟨fun e2 => ?_, fun e2 => ?_⟩
  rotate_left
  · rw [if_pos e2] at k
    rw [gR_m0, ga2 hd, gr_at hg (by omega), rv_m]
    exact mx_refuses ho k
  rw [if_neg e2] at k
  rw [gR_m0, gx_hand, ga hd (by omega), gr_hd hg hc, show (9 : Int32) = nI 9 from rfl, nI_is (by omega) (by omega)]
  refine ⟨fun e3 => ?_, fun e3 => ?_⟩
  rotate_left
  · rw [if_pos e3] at k
    rw [rv_m]
    exact mx_refuses ho k
  rw [if_neg e3] at k
  rw [gR_m0, rv_m]
  refine mx_kp hG hd ho hw (fun s' e0 hk hf => ?_)
  rw [gR_m0, ga hd (by omega), gs hd (by omega), gR_m0, ga hd (by omega), gs hd (by omega), gR_m0, ga hd (by omega), aU_aU, aU_s, aU_s, e0, gr_key hg hat hc, show (1 : Int32) = nI 1 from rfl, pk_sub (by omega), pk_us, pk_un (by omega), gr_hd hg hc, nI_add]
  have f0 : gRep (upd (s.1 0) (10 + 4 * z_at (o_c O) + 1 + co) (nI (z_key (o_c O) (z_at (o_c O)) co - 1))) (sKey (o_c O) (z_at (o_c O)) co (z_key (o_c O) (z_at (o_c O)) co - 1)) := sKey_g hw.1 hg hat hc pk_us (fun j j1 => pk_un j1)
  obtain ⟨f1, f2⟩ := mx_fin hk hf (sHand_g (c := co) (v := z_hd (o_c O) co + 1) (u := 0) (sKey_wf (r := z_at (o_c O)) (c := co) (v := z_key (o_c O) (z_at (o_c O)) co - 1) hw.1 (by omega)) f0 hc pk_us (by rw [pk_un (by omega)]; exact gr_us f0) (fun j j1 j2 => pk_un j1))
  exact k _ f1 f2
theorem mx_open (hG : Base G) (hd : Dis q A) (ho : oRep s O) (hw : wfO O N) (hN : N < 2 ^ 29) {x : Int32} (k : ∀ s', oRep s' (apO O (opOpen (o_c O) x)).2 → Fr s s' → K (apO O (opOpen (o_c O) x)).1 (ovl q A s' h0)) : f_X2_open G (ovl q A s h0) 0 0 (some q) x K := by
  have hg := ho.1
  have hR := wf_nR hw.1
  have hD := wf_nD hw.1
  unfold f_X2_open
  rw [rv_m]
  refine mx_isDoor hd hg hw.1 (bI_y (fun c => ?_) (fun c => ?_))
  rotate_left
  · rw [opOpen, if_neg c] at k
    exact k s ho (Fr_r s)
  obtain ⟨d, hdd, rfl⟩ := ix_n c
  obtain ⟨d1, d2, d3, d4, d5, d6⟩ := wf_d hw.1 hdd
  have hat : z_at (o_c O) < z_nR (o_c O) := by have := wf_at hw.1; omega
  rw [opOpen, if_pos c, nN_nI (by omega)] at k
  rw [gR_m0, ga2 hd, gr_at hg (by omega), rv_m]
  refine mx_isAt hd hg hw.1 (by omega) hdd (bI_y (fun c2 => ?_) (fun c2 => ?_))
  rotate_left
  · rw [if_neg c2] at k
    rw [gR_m0, ga2 hd, gr_at hg (by omega), rv_m]
    exact mx_refuses ho k
  rw [if_pos c2] at k
  rw [rv_m]
  refine mx_sh hd hg hw.1 hdd ?_
  rw [show (0 : Int32) = nI 0 from rfl, nI_is (by omega) (by omega)]
  refine ⟨fun e => ?_, fun e => ?_⟩
  rotate_left
  · rw [if_pos e] at k
    rw [rv_m]
    exact mx_refuses ho k
  rw [if_neg e] at k
  rw [rv_m]
  refine mx_co hd hg hw.1 hdd ?_
  obtain ⟨co, hc, hco⟩ : ∃ c, c < 3 ∧ d_co (z_dr (o_c O) d) = nI c := by
    rcases d4 with z | z
    · exact absurd z.2 e
    · exact z
  rw [hco, nN_nI (by omega)] at k
  have w2 := wf_hd hw.1 hc
  rw [hco, gR_m0, gx_hand, ga hd (by omega), gr_hd hg hc, show (2 : Int32) = nI 2 from rfl, nI_leI (by omega) (by omega)]
  refine ⟨fun e3 => ?_, fun e3 => ?_⟩
  rotate_left
  · rw [if_pos (by omega)] at k
    rw [gR_m0, ga hd (by omega), gr_hd hg hc, rv_m]
    exact mx_refuses ho k
  rw [if_neg (by omega)] at k
  rw [gR_m0, rv_m]
  refine mx_kp hG hd ho hw (fun s' e0 hk hf => ?_)
  rw [gR_m0, ga hd (by omega), gs hd (by omega), gR_m0, ga8 hd, gs8 hd, gR_m0, gx_d4, gs hd (by omega), gR_m0, ga hd (by omega), aU_aU, aU_aU, aU_s, aU_s, aU_s, e0, gr_hd hg hc, pk_sub (by omega), pk_un (by omega), pk_un (by omega), pk_us, pk_un (by omega), gr_us hg, nI_add]
  have f0 : gRep (upd (s.1 0) (50 + 6 * d + 4) (nI 0)) (sSet (o_c O) d (d_open (z_dr (o_c O) d))) := by
    obtain ⟨y1, y2, y3, y4, y5, y6⟩ := gr_d hg hdd
    exact sSet_g (dr := d_open (z_dr (o_c O) d)) hw.1 hg hdd (by rw [pk_un (by omega)]; exact y1) (by rw [pk_un (by omega)]; exact y2) (by rw [pk_un (by omega)]; exact y3) (by rw [pk_un (by omega)]; exact y4) pk_us (by rw [pk_un (by omega)]; exact y6) (fun j j1 j2 j3 j4 j5 j6 => pk_un j5)
  have w0 : wf (sSet (o_c O) d (d_open (z_dr (o_c O) d))) (N + 1) := sSet_wf hw.1 ⟨d1, d2, d3, Or.inr ⟨co, hc, hco⟩, Nat.zero_le _, by show d_go (z_dr (o_c O) d) ≤ N + 1; omega⟩
  obtain ⟨f1, f2⟩ := mx_fin hk hf (sHand_g (c := co) (v := z_hd (o_c O) co - 2) (u := 2) (g' := upd (upd (upd (s.1 0) (4 + co) (nI (z_hd (o_c O) co - 2))) 8 (nI (z_us (o_c O) + 2))) (50 + 6 * d + 4) (nI 0)) w0 f0 hc (by rw [pk_un (by omega), pk_un (by omega), pk_us]) (by rw [pk_un (by omega), pk_us]; rfl) (fun j j1 j2 => by
    by_cases e9 : j = 50 + 6 * d + 4
    · subst e9; rw [pk_us, pk_us]
    · rw [pk_un e9, pk_un e9, pk_un j2, pk_un j1]))
  exact k _ f1 f2
theorem mx_goes (hG : Base G) (hd : Dis q A) (ho : oRep s O) (hw : wfO O N) (hN : N < 2 ^ 28) {x : Int32} (k : ∀ s', oRep s' (apO O (opGo (o_c O) x)).2 → Fr s s' → K (apO O (opGo (o_c O) x)).1 (ovl q A s' h0)) : f_X2_go G (ovl q A s h0) 0 0 (some q) x K := by
  have hg := ho.1
  have hR := wf_nR hw.1
  have hD := wf_nD hw.1
  unfold f_X2_go
  rw [rv_m]
  refine mx_isDoor hd hg hw.1 (bI_y (fun c => ?_) (fun c => ?_))
  rotate_left
  · rw [opGo, if_neg c] at k
    exact k s ho (Fr_r s)
  obtain ⟨d, hdd, rfl⟩ := ix_n c
  obtain ⟨d1, d2, d3, d4, d5, d6⟩ := wf_d hw.1 hdd
  have hat : z_at (o_c O) < z_nR (o_c O) := by have := wf_at hw.1; omega
  have hnd := z_need_pos (o_c O) (z_at (o_c O))
  have hst := wf_st hw.1
  rw [opGo, if_pos c, nN_nI (by omega)] at k
  rw [gR_m0, ga2 hd, gr_at hg (by omega), rv_m]
  refine mx_isAt hd hg hw.1 (by omega) hdd (bI_y (fun c2 => ?_) (fun c2 => ?_))
  rotate_left
  · rw [if_neg c2] at k
    rw [rv_m]
    exact mx_refuses ho k
  rw [if_pos c2] at k
  rw [rv_m]
  refine mx_sh hd hg hw.1 hdd ?_
  rw [show (1 : Int32) = nI 1 from rfl, nI_is (by omega) (by omega)]
  refine ⟨fun e => ?_, fun e => ?_⟩
  rotate_left
  · rw [if_pos e] at k
    rw [rv_m]
    refine mx_co hd hg hw.1 hdd ?_
    rw [rv_m]
    exact mx_refuses ho k
  rw [if_neg e] at k
  rw [gR_m0, ga3 hd, gr_st hg, rv_m]
  refine mx_needs hd hg hw.1 hat ?_
  rw [rv_m, nI_add]
  refine mx_isFor hd hg hw.1 hdd (by omega) (bI_y (fun c3 => ?_) (fun c3 => ?_))
  rotate_left
  · rw [if_neg c3] at k
    rw [rv_m]
    exact mx_refuses ho k
  rw [if_pos c3] at k
  rw [gR_m0, rv_m]
  refine mx_kp hG hd ho hw (fun s' e0 hk hf => ?_)
  rw [rv_m]
  have hg' : gRep (s'.1 0) (o_c O) := by rw [e0]; exact hg
  refine mx_needs hd hg' hw.1 hat ?_
  rw [rv_m]
  refine dI_0 (mx_burns hG hd hg' hw.1 (by omega) (by omega) (fun F hF => ?_))
  have wB : wf (sBurn (o_c O) (z_need (o_c O) (z_at (o_c O)))) (N + z_need (o_c O) (z_at (o_c O))) := sBurn_wf hw.1
  rw [gR_m0, rv_m]
  refine mx_behind (M := sBurn (o_c O) (z_need (o_c O) (z_at (o_c O)))) hd (by rw [aU_s]; exact hF) wB (by omega) hdd ?_
  have hbe : d_beh (z_dr (o_c O) d) (z_at (o_c O)) < z_nR (o_c O) := d_beh_lt hw.1 hdd _
  have hF5 : F (50 + 6 * d + 5) = nI (d_go (z_dr (o_c O) d)) := (gr_d hF hdd).2.2.2.2.2
  have hF9 : F 9 = nI (z_go (o_c O)) := gr_go (M := sBurn (o_c O) (z_need (o_c O) (z_at (o_c O)))) hF
  rw [show d_beh (z_dr (sBurn (o_c O) (z_need (o_c O) (z_at (o_c O)))) d) (z_at (o_c O)) = d_beh (z_dr (o_c O) d) (z_at (o_c O)) from rfl, gs2 hd, gR_m0, gx_d5, ga hd (by omega), gs hd (by omega), gR_m0, ga9 hd]
  have hout : out (o_c O) (z_need (o_c O) (z_at (o_c O))) ≤ z_nR (o_c O) := cnt_le _ _
  refine ⟨fun _ => ?_, fun e9 => absurd (nI_pos' (by omega)) e9⟩
  rw [gs9 hd, gR_m0, ga2 hd, aU_aU, aU_aU, aU_aU, aU_s, aU_s, aU_s, aU_s, pk_un (by omega), pk_un (by omega), pk_us, pk_un (by omega), hF5, pk_un (by omega), pk_un (by omega), hF9, nI_add, nI_add]
  have w1 : wf (sAt (sBurn (o_c O) (z_need (o_c O) (z_at (o_c O)))) (d_beh (z_dr (o_c O) d) (z_at (o_c O)))) (N + z_need (o_c O) (z_at (o_c O)) + 1) := sAt_wf wB hbe
  have f0 : gRep (upd (upd F 2 (nI (d_beh (z_dr (o_c O) d) (z_at (o_c O))))) 9 (nI (z_go (o_c O) + 1))) (sAt (sBurn (o_c O) (z_need (o_c O) (z_at (o_c O)))) (d_beh (z_dr (o_c O) d) (z_at (o_c O)))) := sAt_g wB hF hbe (by rw [pk_un (by decide), pk_us]) (by rw [pk_us]; rfl) (fun j j1 j2 => by rw [pk_un j2, pk_un j1])
  obtain ⟨y1, y2, y3, y4, y5, y6⟩ := gr_d hF hdd
  obtain ⟨f1, f2⟩ := mx_fin hk hf (sSet_g (d := d) (dr := d_gone (z_dr (o_c O) d)) (g' := upd (upd (upd F 2 (nI (d_beh (z_dr (o_c O) d) (z_at (o_c O))))) (50 + 6 * d + 5) (nI (d_go (z_dr (o_c O) d) + 1))) 9 (nI (z_go (o_c O) + 1))) w1 f0 hdd (by rw [pk_un (by omega), pk_un (by omega), pk_un (by omega)]; exact y1) (by rw [pk_un (by omega), pk_un (by omega), pk_un (by omega)]; exact y2) (by rw [pk_un (by omega), pk_un (by omega), pk_un (by omega)]; exact y3) (by rw [pk_un (by omega), pk_un (by omega), pk_un (by omega)]; exact y4) (by rw [pk_un (by omega), pk_un (by omega), pk_un (by omega)]; exact y5) (by rw [pk_un (by omega), pk_us]; rfl) (fun j j1 j2 j3 j4 j5 j6 => by
    by_cases e9 : j = 9
    · subst e9; rw [pk_us, pk_us]
    · rw [pk_un e9, pk_un e9, pk_un j6]))
  exact k _ f1 f2
end OP
