/-! THE MODEL'S QUESTIONS: ways -/
set_option maxRecDepth 100000
def omn (a b : Option Nat) : Option Nat := match a, b with
  | none, b => b
  | some x, none => some x
  | some x, some y => some (min x y)
noncomputable def dFw (M : Mz) (w : Prop) (s0 v : Nat) : Option Nat := dst (arF M w) (fun v => v = s0) v
noncomputable def fwO (M : Mz) (w : Prop) (s0 r : Nat) : Option Nat := omn (dFw M w s0 (2 * r)) (dFw M w s0 (2 * r + 1))
def rFw (o : Option Nat) : Int32 := match o with
  | none => -1015
  | some c => nI c
def s_now (M : Mz) : Nat := 2 * z_at M + z_st M % 2
noncomputable def fwN (M : Mz) (r : Nat) : Option Nat := fwO M True (s_now M) r
noncomputable def dbl (M : Mz) (r : Nat) : Bool := (dFw M False (s_now M) (2 * r)).isSome && (dFw M False (s_now M) (2 * r + 1)).isSome
noncomputable def rWay (M : Mz) (x y p : Int32) : Int32 := if ix x (z_nR M) ∧ ix y (z_nR M) then (if inn p 0 1 then rFw (fwO M True (2 * nN x + nN p) (nN y)) else -1012) else -1011
noncomputable def rLong (M : Mz) (x y p : Int32) : Int32 := if ix x (z_nR M) ∧ ix y (z_nR M) then (if inn p 0 1 then (match fwO M True (2 * nN x + nN p) (nN y) with
  | none => -1015
  | some c => rFw (fwO M True (2 * nN y + (nN p + c) % 2) (nN x)) - nI c) else -1012) else -1011
theorem omn_getD {a b : Option Nat} {far : Nat} (ha : ∀ c, a = some c → c ≤ 40) (hb : ∀ c, b = some c → c ≤ 40) (hf : 40 ≤ far) : min (a.getD far) (b.getD far) = (omn a b).getD far ∧ ∀ c, omn a b = some c → c ≤ 40 := by
  cases a with
  | none =>
    cases b with
    | none => exact ⟨Nat.min_self _, fun c hc => by cases hc⟩
    | some y => have := hb y rfl; exact ⟨Nat.min_eq_right (by show y ≤ far; omega), fun c hc => by cases hc; exact this⟩
  | some x =>
    have := ha x rfl
    cases b with
    | none => exact ⟨Nat.min_eq_left (by show x ≤ far; omega), fun c hc => by cases hc; exact this⟩
    | some y => exact ⟨rfl, fun c hc => by cases hc; omega⟩
theorem oRep_67 {s : MS} {O : Ou} {i : Nat} {f : Nat → Int32} (h : oRep s O) (hi : i = 6 ∨ i = 7) : oRep (aU s i f) O := by
  obtain ⟨k0, k1, k2, k3, k4, k5, k6, k7, k8, k9, k10⟩ := h
  refine ⟨by rw [aU_n (by omega)]; exact k0, k1, ?_, ?_, k4, k5, k6, k7, ?_, k9, ?_⟩
  · rw [aU_n (by omega)]; exact k2
  · rw [aU_n (by omega)]; exact k3
  · rw [aU_n (by omega)]; exact k8
  · rw [aU_n (by omega)]; exact k10
section SP
variable {G : Gt} {q : Nat} {A : Nat → Nat} {s : MS} {h0 : Hp} {N : Nat} {M : Mz} {O : Ou}
theorem mx_fewest {w : Prop} {s0 r : Nat} {K : Int32 → Hp → Prop} (hd : Dis q A) (hR : z_nR M ≤ 10) (hr : r < z_nR M) (hf : spA (arF M w) (fun v => v = s0) (2 * z_nR M) 9999 (s.1 6)) (k : (∀ c, fwO M w s0 r = some c → c ≤ 40) → K (nI ((fwO M w s0 r).getD 9999)) (ovl q A s h0)) : f_X2_fewest G (ovl q A s h0) (some q) (nI r) K := by
  unfold f_X2_fewest
  have a := hf (2 * r) (by omega)
  have b := hf (2 * r + 1) (by omega)
  have c := omn_getD (far := 9999) a.2 b.2 (by decide)
  have ba : (dst (arF M w) (fun v => v = s0) (2 * r)).getD 9999 ≤ 9999 := by
    cases h : dst (arF M w) (fun v => v = s0) (2 * r) with
    | none => exact Nat.le_refl _
    | some c => have := a.2 c h; show c ≤ 9999; omega
  have bb : (dst (arF M w) (fun v => v = s0) (2 * r + 1)).getD 9999 ≤ 9999 := by
    cases h : dst (arF M w) (fun v => v = s0) (2 * r + 1) with
    | none => exact Nat.le_refl _
    | some c => have := b.2 c h; show c ≤ 9999; omega
  rw [gR_m13, show (2 : Int32) = nI 2 from rfl, pk_mul, nI_1, s6 hd (by omega), gR_m13, s6 hd (by omega), a.1, b.1]
  refine mx_least (by omega) (by omega) ?_
  rw [c.1]
  exact k c.2
theorem fw_9 {o : Option Nat} (h : ∀ c, o = some c → c ≤ 40) : (nI (o.getD 9999) = (9999 : Int32) ↔ o = none) := by
  cases o with
  | none => exact ⟨fun _ => rfl, fun _ => rfl⟩
  | some c =>
    have := h c rfl
    refine ⟨fun e => ?_, fun e => by cases e⟩
    have e : nI c = nI 9999 := e
    rw [nI_is (by omega) (by omega)] at e
    omega
theorem fw_le {o : Option Nat} (h : ∀ c, o = some c → c ≤ 40) : o.getD 9999 ≤ 9999 := by
  cases o with
  | none => exact Nat.le_refl _
  | some c => have := h c rfl; show c ≤ 9999; omega
/-- the shape: not FAR, once more; FAR, nothing -/
theorem mx_fwq {w : Prop} {s0 r : Nat} {K : Int32 → Hp → Prop} (hd : Dis q A) (hR : z_nR M ≤ 10) (hr : r < z_nR M) (hf : spA (arF M w) (fun v => v = s0) (2 * z_nR M) 9999 (s.1 6)) (k : (∀ c, fwO M w s0 r = some c → c ≤ 40) → K (rFw (fwO M w s0 r)) (ovl q A s h0)) : f_X2_fewest G (ovl q A s h0) (some q) (nI r) (fun i22 h21 => (¬ (i22 = (9999 : Int32)) → rv h21 (some q) 2 (f_X2_fewest G h21 (some q) (nI r) (fun i28 h27 => K i28 h27))) ∧ (i22 = (9999 : Int32) → K (-1015 : Int32) h21)) := by
  refine mx_fewest hd hR hr hf (fun hb => ?_)
  rw [fw_9 hb]
  refine ⟨fun e => ?_, fun e => ?_⟩
  · rw [rv_m]
    refine mx_fewest hd hR hr hf (fun hb => ?_)
    cases h : fwO M w s0 r with
    | none => exact absurd h e
    | some c => have := k hb; rw [h] at this; exact this
  · have := k hb; rw [e] at this; exact this
theorem mx_way {x y p : Int32} {K : Int32 → Hp → Prop} (hG : Base G) (hd : Dis q A) (ho : oRep s O) (hw : wfO O N) (k : ∀ s', oRep s' O → Fr s s' → (∀ c, rWay (o_c O) x y p = nI c → True) → K (rWay (o_c O) x y p) (ovl q A s' h0)) : f_X2_way G (ovl q A s h0) 0 0 (some q) x y p K := by
  have hg := ho.1
  have hR := wf_nR hw.1
  unfold f_X2_way
  rw [rv_m]
  refine mx_areRooms hd hg hw.1 (bI_y (fun c => ?_) (fun c => ?_))
  rotate_left
  · rw [rWay, if_neg c] at k
    exact k s ho (Fr_r s) (fun _ _ => trivial)
  obtain ⟨a, ha, rfl⟩ := ix_n c.1
  obtain ⟨b, hb, rfl⟩ := ix_n c.2
  refine Mz_inn (lo := 0) (hi := 1) rfl rfl (bI_y (fun c2 => ?_) (fun c2 => ?_))
  rotate_left
  · rw [rWay, if_pos c, if_neg c2] at k
    exact k s ho (Fr_r s) (fun _ _ => trivial)
  obtain ⟨pn, hpn, rfl⟩ := inn_n (b := 1) c2.1 c2.2
  rw [rWay, if_pos c, if_pos c2, nN_nI (by omega), nN_nI (by omega), nN_nI (by omega)] at k
  rw [rv_m]
  refine dV_0 (mx_spreads (w := True) hG hd hg hw.1 ha (by omega) (fun f hf => ?_))
  rw [rv_m]
  refine mx_fwq (w := True) (s0 := 2 * a + pn) hd hR hb (by rw [aU_s]; exact hf) (fun _ => ?_)
  exact k _ (oRep_67 ho (Or.inl rfl)) (Fr_a (Fr_r s) (by decide) (by decide)) (fun _ _ => trivial)
theorem mx_wayM {x y p : Int32} {K : Int32 → Hp → Prop} (hG : Base G) (hd : Dis q A) (ho : oRep s O) (hw : wfO O N) (k : ∀ s', oRep s' O → Fr s s' → K (rWay (o_c O) x y p) (ovl q A s' h0)) : MM G Y_X2_way cX2_way 4 0 0 [.ref q, .int x, .int y, .int p] (ovl q A s h0) (kI K) xN :=
  m_X2_way hG (Nat.le_refl 0) (Nat.le_refl 0) (mx_way hG hd ho hw (fun s' h1 h2 _ => k s' h1 h2))
theorem mx_wayAgain {x y p : Int32} {K : Int32 → Hp → Prop} (hG : Base G) (hd : Dis q A) (ho : oRep s O) (hw : wfO O N) (k : ∀ s', oRep s' O → Fr s s' → K (rWay (o_c O) x y p) (ovl q A s' h0)) : f_X2_wayAgain G (ovl q A s h0) 0 0 (some q) x y p K := by
  unfold f_X2_wayAgain
  rw [rv_m]
  exact dI_0 (mx_wayM hG hd ho hw k)
theorem fwO_le {w : Prop} {s0 r : Nat} {f : Nat → Int32} (hr : r < z_nR M) (hf : spA (arF M w) (fun v => v = s0) (2 * z_nR M) 9999 f) : ∀ c, fwO M w s0 r = some c → c ≤ 40 := (omn_getD (far := 9999) (hf (2 * r) (by omega)).2 (hf (2 * r + 1) (by omega)).2 (by decide)).2
/-- the distances are at most 40: by the model's own run -/
theorem rLong_ok {a b p : Nat} (hb : b < z_nR M) {f : Nat → Int32} (hf : spA (arF M True) (fun v => v = 2 * a + p) (2 * z_nR M) 9999 f) : rFw (fwO M True (2 * a + p) b) = -1015 ∧ fwO M True (2 * a + p) b = none ∨ ∃ c, c ≤ 40 ∧ fwO M True (2 * a + p) b = some c := by
  cases h : fwO M True (2 * a + p) b with
  | none => exact Or.inl ⟨rfl, rfl⟩
  | some c => exact Or.inr ⟨c, fwO_le hb hf c h, rfl⟩
theorem mx_longerBack {x y p : Int32} {K : Int32 → Hp → Prop} (hG : Base G) (hd : Dis q A) (ho : oRep s O) (hw : wfO O N) (k : ∀ s', oRep s' O → Fr s s' → K (rLong (o_c O) x y p) (ovl q A s' h0)) : f_X2_longerBack G (ovl q A s h0) 0 0 (some q) x y p K := by
  have hg := ho.1
  have hR := wf_nR hw.1
  unfold f_X2_longerBack
  rw [rv_m]
  refine dI_0 (m_X2_way hG (Nat.le_refl 0) (Nat.le_refl 0) ?_)
  show f_X2_way G (ovl q A s h0) 0 0 (some q) x y p _
  unfold f_X2_way
  rw [rv_m]
  refine mx_areRooms hd hg hw.1 (bI_y (fun c => ?_) (fun c => ?_))
  rotate_left
  · rw [rLong, if_neg c] at k
    exact ⟨fun z => absurd z (by decide), fun _ => k s ho (Fr_r s)⟩
  obtain ⟨a, ha, rfl⟩ := ix_n c.1
  obtain ⟨b, hb, rfl⟩ := ix_n c.2
  refine Mz_inn (lo := 0) (hi := 1) rfl rfl (bI_y (fun c2 => ?_) (fun c2 => ?_))
  rotate_left
  · rw [rLong, if_pos c, if_neg c2] at k
    exact ⟨fun z => absurd z (by decide), fun _ => k s ho (Fr_r s)⟩
  obtain ⟨pn, hpn, rfl⟩ := inn_n (b := 1) c2.1 c2.2
  rw [rLong, if_pos c, if_pos c2, nN_nI (by omega), nN_nI (by omega), nN_nI (by omega)] at k
  rw [rv_m]
  refine dV_0 (mx_spreads (w := True) hG hd hg hw.1 ha (by omega) (fun f hf => ?_))
  rw [rv_m]
  refine mx_fwq (w := True) (s0 := 2 * a + pn) hd hR hb (by rw [aU_s]; exact hf) (fun hle => ?_)
  have ho2 : oRep (aU s 6 f) O := oRep_67 ho (Or.inl rfl)
  have hf2 : Fr s (aU s 6 f) := Fr_a (Fr_r s) (by decide) (by decide)
  cases hc : fwO (o_c O) True (2 * a + pn) b with
  | none =>
    rw [hc] at k
    exact ⟨fun z => absurd z (by decide), fun _ => k _ ho2 hf2⟩
  | some cc =>
    rw [hc] at k
    have hcc := hle cc hc
    refine ⟨fun _ => ?_, fun z => absurd (nI_pos' (n := cc) (by omega)) z⟩
    rw [rv_m]
    refine dI_0 (mx_wayM hG hd ho2 hw (fun s' h1 h2 => ?_))
    have e : nI pn + rFw (some cc) - (nI pn + rFw (some cc)) / (2 : Int32) * (2 : Int32) = nI ((pn + cc) % 2) := by
      show nI pn + nI cc - (nI pn + nI cc) / (2 : Int32) * (2 : Int32) = _
      rw [nI_add, nI_par (by omega)]
    have e5 : inn (nI ((pn + cc) % 2)) 0 1 := by unfold inn; rw [nI_toInt (by omega)]; omega
    rw [e, rWay, if_pos ⟨c.2, c.1⟩, if_pos e5, nN_nI (by omega), nN_nI (by omega), nN_nI (by omega)]
    exact k s' h1 (Fr_t hf2 h2)
theorem mx_onWay {x y p pl : Int32} {K : Int32 → Hp → Prop} (hG : Base G) (hd : Dis q A) (ho : oRep s O) (hw : wfO O N) (k : ∀ s', oRep s' O → Fr s s' → K (rOnWay (o_c O) x y p pl) (ovl q A s' h0)) : MM G Y_X2_onWay cX2_onWay 7 0 0 [.ref q, .int x, .int y, .int p, .int pl] (ovl q A s h0) (kI K) xN := by
  have hg := ho.1
  have hR := wf_nR hw.1
  refine b_X2_onWay hG (fun E => s_X2_onWay_0 hG (Nat.le_refl _) (Nat.le_refl _) ?_)
  unfold g_X2_onWay_0
  rw [rv_m]
  refine mx_areRooms hd hg hw.1 (bI_z (fun c => ?_) (fun c => ?_))
  · rw [rOnWay, if_neg (fun z => c z.1)] at k
    exact k s ho (Fr_r s)
  refine ⟨fun c1 => ?_, fun c1 => ?_⟩
  rotate_left
  · rw [rOnWay, if_neg (fun z => c1 z.2)] at k
    exact k s ho (Fr_r s)
  obtain ⟨a, ha, rfl⟩ := ix_n c.1
  obtain ⟨b, hb, rfl⟩ := ix_n c.2
  obtain ⟨pn, hpn, rfl⟩ := nI_of (x := pl) (by rw [Int32.lt_iff_toInt_lt]; rw [Int32.le_iff_toInt_le] at c1; omega)
  refine Mz_inn (lo := 0) (hi := 1) rfl rfl (bI_y (fun c2 => ?_) (fun c2 => ?_))
  rotate_left
  · rw [rOnWay, if_pos ⟨c, c1⟩, if_neg c2] at k
    exact k s ho (Fr_r s)
  obtain ⟨pp, hpp, rfl⟩ := inn_n (b := 1) c2.1 c2.2
  rw [rOnWay, if_pos ⟨c, c1⟩, if_pos c2, nN_nI (by omega), nN_nI (by omega), nN_nI (by omega), nN_nI (by omega)] at k
  rw [rv_m]
  refine dV_0 (mx_looksBack hG hd hg hw.1 hb (fun f hf hD => ?_))
  have ho2 : oRep (aU s 7 f) O := oRep_67 ho (Or.inr rfl)
  have hf2 : Fr s (aU s 7 f) := Fr_a (Fr_r s) (by decide) (by decide)
  have k := k _ ho2 hf2
  rw [gR_m14, show (2 : Int32) = nI 2 from rfl, pk_mul, nI_add, s7 hd (by omega), aU_s, (hf (2 * a + pp) (by omega)).1]
  have hb9 := hf (2 * a + pp) (by omega)
  cases hc : dB (o_c O) b (2 * a + pp) with
  | none =>
    rw [hc] at k
    rw [show dst (arB (o_c O)) (srB (o_c O) b) (2 * a + pp) = none from hc]
    exact ⟨fun z => absurd z (by decide), fun _ => k⟩
  | some cc =>
    rw [hc] at k
    have hc0 : dst (arB (o_c O)) (srB (o_c O) b) (2 * a + pp) = some cc := hc
    have hcc := hb9.2 cc hc0
    rw [hc0]
    refine ⟨fun _ => ?_, fun z => absurd (show nI cc < nI 9999 from nI_lt (by omega) (by omega)) z⟩
    have hf7 : spA (arB (o_c O)) (srB (o_c O) b) (2 * z_nR (o_c O)) 9999 ((aU s 7 f).1 7) := by rw [aU_s]; exact hf
    have key : ∀ c j, j ≤ pn → dB (o_c O) b (trk (o_c O) b (2 * a + pp) j) = some c → (∀ i, i < j → ¬ trk (o_c O) b (2 * a + pp) i / 2 = b) → V G E Y_X2_onWay cX2_onWay 7 (QM G E (kI K) xN) (ovl q A (aU s 7 f) h0) 0 0 63 [(0, .ref q), (2, .int (nI b)), (4, .int (nI pn)), (5, .int (nI (trk (o_c O) b (2 * a + pp) j))), (6, .int (nI j))] [] := by
      intro c
      induction c using Nat.strongRecOn with
      | _ c ih =>
        intro j hj hcj hn
        have htl := trk_lt (t := b) (u := 2 * a + pp) hw.1 (by omega) j
        refine s_X2_onWay_63 hG (Nat.le_refl _) (Nat.le_refl _) ?_
        unfold g_X2_onWay_63
        rw [nI_leI (by omega) (by omega), nI_half (by omega), nI_is (by omega) (by omega)]
        refine ⟨fun e => ?_, fun e => ⟨fun e2 => ?_, fun e2 => ?_⟩⟩
        · have e : j = pn := by omega
          subst e
          rw [fnd_n hn] at k
          exact k
        · rw [rv_m]
          refine dI_0 (mx_goesOn hG hd ho2.1 hw.1 htl hf7 hcj ?_)
          rw [nI_1]
          obtain ⟨c2, h1, h2⟩ := nx_c hw.1 hD htl hcj e2
          refine ih c2 h1 (j + 1) (by omega) h2 (fun i hi => ?_)
          by_cases e3 : i = j
          · subst e3; exact e2
          · exact hn i (by omega)
        · rw [fnd_s (p := fun k => trk (o_c O) b (2 * a + pp) k / 2 = b) (d := j) (by omega) e2 hn] at k
          exact k
    exact key cc 0 (Nat.zero_le _) hc (fun i hi => absurd hi (Nat.not_lt_zero _))
end SP
