/-! THE MODEL'S QUESTIONS: reach, nearestKey, ranked -/
set_option maxRecDepth 100000
noncomputable def rReach (M : Mz) : Int32 := rchN M (z_nR M)
noncomputable def rNear (M : Mz) (x : Int32) : Int32 := if ix x 3 then (if z_nR M = 0 then -1015 else match bstN M (nN x) (z_nR M) with
  | none => -1015
  | some r => nI r) else -1012
/-- how many rooms are ahead -/
noncomputable def ahd (M : Mz) (r n : Nat) : Nat := cnt (fun o => (fwN M o).getD 9999 < (fwN M r).getD 9999 ∨ ((fwN M o).getD 9999 = (fwN M r).getD 9999 ∧ o < r)) n
noncomputable def rRank (M : Mz) (x : Int32) : Int32 := match fnd (fun r => nI (ahd M r (z_nR M)) = x) (z_nR M) with
  | none => -1011
  | some r => nI r
section SP
variable {G : Gt} {q : Nat} {A : Nat → Nat} {s : MS} {h0 : Hp} {N : Nat} {M : Mz} {O : Ou}
theorem mx_few {r : Nat} {K : Int32 → Hp → Prop} (hd : Dis q A) (hR : z_nR M ≤ 10) (hr : r < z_nR M) (hf : spA (arF M True) (fun v => v = s_now M) (2 * z_nR M) 9999 (s.1 6)) (k : K (nI ((fwN M r).getD 9999)) (ovl q A s h0)) : f_X2_fewest G (ovl q A s h0) (some q) (nI r) K := mx_fewest (w := True) (s0 := s_now M) hd hR hr hf (fun _ => k)
theorem fwN_le {f : Nat → Int32} {r : Nat} (hr : r < z_nR M) (hf : spA (arF M True) (fun v => v = s_now M) (2 * z_nR M) 9999 f) : ∀ c, fwN M r = some c → c ≤ 40 := fwO_le hr hf
theorem mx_reach {K : Int32 → Hp → Prop} (hG : Base G) (hd : Dis q A) (ho : oRep s O) (hw : wfO O N) (hN : N < 2 ^ 29) (k : ∀ s', oRep s' O → Fr s s' → K (rReach (o_c O)) (ovl q A s' h0)) : MM G Y_X2_reach cX2_reach 3 0 0 [.ref q] (ovl q A s h0) (kI K) xN := by
  have hg := ho.1
  have hR := wf_nR hw.1
  refine b_X2_reach hG (fun E => s_X2_reach_0 hG (Nat.le_refl _) (Nat.le_refl _) ?_)
  unfold g_X2_reach_0
  rw [gR_m0, ga0 hd, gr_nR hg, show (0 : Int32) = nI 0 from rfl, nI_is (by omega) (by omega)]
  refine ⟨fun e => ?_, fun e => ?_⟩
  rotate_left
  · have k := k s ho (Fr_r s)
    rw [rReach, e] at k; exact k
  rw [rv_m]
  refine dV_0 (mx_spreadsNow (w := True) hG hd hg hw.1 hN (by omega) (fun f hf => ?_))
  have ho2 : oRep (aU s 6 f) O := oRep_67 ho (Or.inl rfl)
  have k := k _ ho2 (Fr_a (Fr_r s) (by decide) (by decide))
  have hf6 : spA (arF (o_c O) True) (fun v => v = s_now (o_c O)) (2 * z_nR (o_c O)) 9999 ((aU s 6 f).1 6) := by rw [aU_s]; exact hf
  have key : ∀ j, j ≤ z_nR (o_c O) → V G E Y_X2_reach cX2_reach 3 (QM G E (kI K) xN) (ovl q A (aU s 6 f) h0) 0 0 20 [(0, .ref q), (1, .int (rchN (o_c O) j)), (2, .int (nI j))] [] := by
    refine up_to ?_ (fun j hj ih => ?_)
    · refine s_X2_reach_20 hG (Nat.le_refl _) (Nat.le_refl _) ?_
      unfold g_X2_reach_20
      rw [gR_m0, ga0 hd, gr_nR ho2.1]
      exact ⟨fun _ => k, fun e => absurd (nI_le (Nat.le_refl _) (by omega)) e⟩
    · refine s_X2_reach_20 hG (Nat.le_refl _) (Nat.le_refl _) ?_
      unfold g_X2_reach_20
      rw [gR_m0, ga0 hd, gr_nR ho2.1]
      refine ⟨fun e => absurd e (nI_ge hj (by omega)), fun _ => ?_⟩
      rw [rv_m]
      refine mx_few hd hR hj hf6 ?_
      rw [fwO_9 (fwN_le hj hf), nI_1]
      refine ⟨fun e => ?_, fun e => ?_⟩
      · rw [show rchN (o_c O) j ||| (0 : Int32) = rchN (o_c O) (j + 1) by show _ = _ ||| _; rw [e]; rfl]
        exact ih
      · rw [show rchN (o_c O) j ||| ((1 : Int32) <<< (nI j &&& 31)) = rchN (o_c O) (j + 1) by
          show _ = _ ||| _
          rw [if_pos (Option.isSome_iff_ne_none.mpr e)]]
        exact ih
  exact key 0 (Nat.zero_le _)
theorem mx_near {x : Int32} {K : Int32 → Hp → Prop} (hG : Base G) (hd : Dis q A) (ho : oRep s O) (hw : wfO O N) (hN : N < 2 ^ 29) (k : ∀ s', oRep s' O → Fr s s' → K (rNear (o_c O) x) (ovl q A s' h0)) : MM G Y_X2_nearestKey cX2_nearestKey 4 0 0 [.ref q, .int x] (ovl q A s h0) (kI K) xN := by
  have hg := ho.1
  have hR := wf_nR hw.1
  refine b_X2_nearestKey hG (fun E => s_X2_nearestKey_0 hG (Nat.le_refl _) (Nat.le_refl _) ?_)
  unfold g_X2_nearestKey_0
  refine mx_isColour (bI_y (fun c => ?_) (fun c => ?_))
  rotate_left
  · rw [rNear, if_neg c] at k; exact k s ho (Fr_r s)
  obtain ⟨co, hc, rfl⟩ := ix_n c
  rw [rNear, if_pos c, nN_nI (by omega)] at k
  rw [gR_m0, ga0 hd, gr_nR hg, show (0 : Int32) = nI 0 from rfl, nI_is (by omega) (by omega)]
  refine ⟨fun e => ?_, fun e => ?_⟩
  rotate_left
  · rw [if_pos e] at k; exact k s ho (Fr_r s)
  rw [if_neg e] at k
  rw [rv_m]
  refine dV_0 (mx_spreadsNow (w := True) hG hd hg hw.1 hN (by omega) (fun f hf => ?_))
  have ho2 : oRep (aU s 6 f) O := oRep_67 ho (Or.inl rfl)
  have k := k _ ho2 (Fr_a (Fr_r s) (by decide) (by decide))
  have hf6 : spA (arF (o_c O) True) (fun v => v = s_now (o_c O)) (2 * z_nR (o_c O)) 9999 ((aU s 6 f).1 6) := by rw [aU_s]; exact hf
  have hlt : ∀ n b, n ≤ z_nR (o_c O) → bstN (o_c O) co n = some b → b < n := by
    intro n
    induction n with
    | zero => intro b _ h; cases h
    | succ n ih =>
      intro b hn h
      unfold bstN at h
      split at h
      · cases h; omega
      · have := ih b (by omega) h; omega
  have key : ∀ j, j ≤ z_nR (o_c O) → ∀ v, v = (match bstN (o_c O) co j with | none => -1 | some r => nI r) → V G E Y_X2_nearestKey cX2_nearestKey 4 (QM G E (kI K) xN) (ovl q A (aU s 6 f) h0) 0 0 33 [(0, .ref q), (1, .int (nI co)), (2, .int v), (3, .int (nI j))] [] := by
    refine up_to (fun v hv => ?_) (fun j hj ih v hv => ?_)
    · refine s_X2_nearestKey_33 hG (Nat.le_refl _) (Nat.le_refl _) ?_
      unfold g_X2_nearestKey_33
      rw [gR_m0, ga0 hd, gr_nR ho2.1]
      refine ⟨fun _ => ?_, fun e => absurd (nI_le (Nat.le_refl _) (by omega)) e⟩
      cases hb : bstN (o_c O) co (z_nR (o_c O)) with
      | none => rw [hb] at hv k; subst hv; exact ⟨fun z => absurd z (by decide), fun _ => k⟩
      | some r =>
        rw [hb] at hv k; subst hv
        have := hlt _ r (Nat.le_refl _) hb
        exact ⟨fun _ => k, fun z => absurd (nI_pos' (by omega)) z⟩
    · refine s_X2_nearestKey_33 hG (Nat.le_refl _) (Nat.le_refl _) ?_
      unfold g_X2_nearestKey_33
      have wk := wf_key hw.1 hj hc
      have no : ¬ (0 < z_key (o_c O) j co ∧ (fwN (o_c O) j).isSome = true ∧ (∀ b, bstN (o_c O) co j = some b → (fwN (o_c O) j).getD 9999 < (fwN (o_c O) b).getD 9999)) → V G E Y_X2_nearestKey cX2_nearestKey 4 (QM G E (kI K) xN) (ovl q A (aU s 6 f) h0) 0 0 33 [(0, .ref q), (1, .int (nI co)), (2, .int v), (3, .int (nI j + 1))] [] := by
        intro z
        rw [nI_1]
        refine ih v ?_
        unfold bstN
        rw [if_neg z]; exact hv
      have yes : (0 < z_key (o_c O) j co ∧ (fwN (o_c O) j).isSome = true ∧ (∀ b, bstN (o_c O) co j = some b → (fwN (o_c O) j).getD 9999 < (fwN (o_c O) b).getD 9999)) → V G E Y_X2_nearestKey cX2_nearestKey 4 (QM G E (kI K) xN) (ovl q A (aU s 6 f) h0) 0 0 33 [(0, .ref q), (1, .int (nI co)), (2, .int (nI j)), (3, .int (nI j + 1))] [] := by
        intro z
        rw [nI_1]
        refine ih _ ?_
        unfold bstN
        rw [if_pos z]
      have hle := fwN_le hj hf
      have hl9 := fw_le hle
      rw [gR_m0, ga0 hd, gr_nR ho2.1]
      refine ⟨fun e => absurd e (nI_ge hj (by omega)), fun _ => ?_⟩
      rw [gR_m0, gx_key, ga hd (by omega), gr_key ho2.1 hj hc, show (0 : Int32) = nI 0 from rfl, nI_leI (by omega) (by omega)]
      refine ⟨fun e2 => no (fun z => by omega), fun e2 => ?_⟩
      rw [rv_m]
      refine mx_few hd hR hj hf6 ?_
      rw [fwO_9 hle]
      refine ⟨fun e3 => no (fun z => by rw [e3] at z; exact absurd z.2.1 (by decide)), fun e3 => ?_⟩
      have e3 := Option.isSome_iff_ne_none.mpr e3
      cases hb : bstN (o_c O) co j with
      | none =>
        rw [hb] at hv; subst hv
        exact ⟨fun _ => yes ⟨by omega, e3, fun b z => by rw [hb] at z; cases z⟩, fun z => absurd (by decide) z⟩
      | some b =>
        rw [hb] at hv; subst hv
        have hbl := hlt _ b (by omega) hb
        have hle2 := fwN_le (r := b) (by omega) hf
        have hl92 := fw_le hle2
        refine ⟨fun z => absurd z (nI_pos (by omega)), fun _ => ?_⟩
        rw [rv_m]
        refine mx_few hd hR hj hf6 ?_
        rw [rv_m]
        refine mx_few hd hR (by omega) hf6 ?_
        rw [nI_leI (by omega) (by omega)]
        refine ⟨fun e4 => no (fun z => ?_), fun e4 => yes ⟨by omega, e3, fun b2 z => ?_⟩⟩
        · have := z.2.2 b hb; omega
        · rw [hb] at z; cases z; omega
  exact key 0 (Nat.zero_le _) _ rfl
theorem mx_ranked {x : Int32} {K : Int32 → Hp → Prop} (hG : Base G) (hd : Dis q A) (ho : oRep s O) (hw : wfO O N) (hN : N < 2 ^ 29) (k : ∀ s', oRep s' O → Fr s s' → K (rRank (o_c O) x) (ovl q A s' h0)) : MM G Y_X2_ranked cX2_ranked 5 0 0 [.ref q, .int x] (ovl q A s h0) (kI K) xN := by
  have hg := ho.1
  have hR := wf_nR hw.1
  refine b_X2_ranked hG (fun E => s_X2_ranked_0 hG (Nat.le_refl _) (Nat.le_refl _) ?_)
  have main : ∀ s', oRep s' O → Fr s s' → (0 < z_nR (o_c O) → spA (arF (o_c O) True) (fun v => v = s_now (o_c O)) (2 * z_nR (o_c O)) 9999 (s'.1 6)) → V G E Y_X2_ranked cX2_ranked 5 (QM G E (kI K) xN) (ovl q A s' h0) 0 0 16 [(0, .ref q), (1, .int x), (2, .int (nI 0))] [] := by
    intro s' ho2 hf2 hsp
    have k := k _ ho2 hf2
    have key : ∀ r, r ≤ z_nR (o_c O) → (∀ i, i < r → ¬ nI (ahd (o_c O) i (z_nR (o_c O))) = x) → V G E Y_X2_ranked cX2_ranked 5 (QM G E (kI K) xN) (ovl q A s' h0) 0 0 16 [(0, .ref q), (1, .int x), (2, .int (nI r))] [] := by
      refine up_to (fun hn => ?_) (fun r hr ih hn => ?_)
      · refine s_X2_ranked_16 hG (Nat.le_refl _) (Nat.le_refl _) ?_
        unfold g_X2_ranked_16
        rw [gR_m0, ga0 hd, gr_nR ho2.1]
        refine ⟨fun _ => ?_, fun e => absurd (nI_le (Nat.le_refl _) (by omega)) e⟩
        rw [rRank, fnd_n hn] at k; exact k
      · refine s_X2_ranked_16 hG (Nat.le_refl _) (Nat.le_refl _) ?_
        unfold g_X2_ranked_16
        rw [gR_m0, ga0 hd, gr_nR ho2.1]
        refine ⟨fun e => absurd e (nI_ge hr (by omega)), fun _ => ?_⟩
        have hf6 := hsp (by omega)
        have inner : ∀ o, o ≤ z_nR (o_c O) → V G E Y_X2_ranked cX2_ranked 5 (QM G E (kI K) xN) (ovl q A s' h0) 0 0 31 [(0, .ref q), (1, .int x), (2, .int (nI r)), (3, .int (nI (ahd (o_c O) r o))), (4, .int (nI o))] [] := by
          refine up_to ?_ (fun o hol ih2 => ?_)
          · refine s_X2_ranked_31 hG (Nat.le_refl _) (Nat.le_refl _) ?_
            unfold g_X2_ranked_31
            rw [gR_m0, ga0 hd, gr_nR ho2.1]
            refine ⟨fun _ => ⟨fun e => ?_, fun e => ?_⟩, fun e => absurd (nI_le (Nat.le_refl _) (by omega)) e⟩
            · rw [nI_1]
              refine ih (fun i hi => ?_)
              by_cases e2 : i = r
              · subst e2; exact e
              · exact hn i (by omega)
            · rw [rRank, fnd_s (p := fun r => nI (ahd (o_c O) r (z_nR (o_c O))) = x) hr e hn] at k; exact k
          · have hl1 := fw_le (fwN_le hol hf6)
            have hl2 := fw_le (fwN_le hr hf6)
            have no : ¬ ((fwN (o_c O) o).getD 9999 < (fwN (o_c O) r).getD 9999 ∨ ((fwN (o_c O) o).getD 9999 = (fwN (o_c O) r).getD 9999 ∧ o < r)) → V G E Y_X2_ranked cX2_ranked 5 (QM G E (kI K) xN) (ovl q A s' h0) 0 0 31 [(0, .ref q), (1, .int x), (2, .int (nI r)), (3, .int (nI (ahd (o_c O) r o) + 0)), (4, .int (nI o + 1))] [] := by
              intro z
              rw [show (0 : Int32) = nI 0 from rfl, nI_add, nI_1, show ahd (o_c O) r o + 0 = ahd (o_c O) r (o + 1) by show _ = _ + _; rw [if_neg z]; rfl]
              exact ih2
            have yes : ((fwN (o_c O) o).getD 9999 < (fwN (o_c O) r).getD 9999 ∨ ((fwN (o_c O) o).getD 9999 = (fwN (o_c O) r).getD 9999 ∧ o < r)) → V G E Y_X2_ranked cX2_ranked 5 (QM G E (kI K) xN) (ovl q A s' h0) 0 0 31 [(0, .ref q), (1, .int x), (2, .int (nI r)), (3, .int (nI (ahd (o_c O) r o) + 1)), (4, .int (nI o + 1))] [] := by
              intro z
              rw [nI_1, nI_1, show ahd (o_c O) r o + 1 = ahd (o_c O) r (o + 1) by show _ = _ + _; rw [if_pos z]; rfl]
              exact ih2
            refine s_X2_ranked_31 hG (Nat.le_refl _) (Nat.le_refl _) ?_
            unfold g_X2_ranked_31
            rw [gR_m0, ga0 hd, gr_nR ho2.1]
            refine ⟨fun e => absurd e (nI_ge hol (by omega)), fun _ => ?_⟩
            rw [rv_m]
            refine mx_few hd hR hol hf6 ?_
            rw [rv_m]
            refine mx_few hd hR hr hf6 ?_
            rw [nI_ltI (by omega) (by omega)]
            refine ⟨fun e => yes (Or.inl e), fun e => ?_⟩
            rw [rv_m]
            refine mx_few hd hR hol hf6 ?_
            rw [rv_m]
            refine mx_few hd hR hr hf6 ?_
            rw [nI_is (by omega) (by omega), nI_leI (by omega) (by omega)]
            refine ⟨fun e2 => no (fun z => ?_), fun e2 => ⟨fun e3 => no (fun z => ?_), fun e3 => yes (Or.inr ⟨e2, by omega⟩)⟩⟩
            · rcases z with z | z
              · exact e z
              · exact e2 z.1
            · rcases z with z | z
              · exact e z
              · omega
        exact inner 0 (Nat.zero_le _)
    exact key 0 (Nat.zero_le _) (fun i hi => absurd hi (Nat.not_lt_zero _))
  unfold g_X2_ranked_0
  rw [gR_m0, ga0 hd, gr_nR hg, show (0 : Int32) = nI 0 from rfl, nI_leI (by omega) (by omega)]
  refine ⟨fun e => main s ho (Fr_r s) (fun z => by omega), fun e => ?_⟩
  rw [rv_m]
  refine dV_0 (mx_spreadsNow (w := True) hG hd hg hw.1 hN (by omega) (fun f hf => ?_))
  exact main _ (oRep_67 ho (Or.inl rfl)) (Fr_a (Fr_r s) (by decide) (by decide)) (fun _ => by rw [aU_s]; exact hf)
end SP
