/-! THE MODEL'S WAY BACK: looksBack, goesOn, onWay -/
set_option maxRecDepth 100000
def arB (M : Mz) : Arc := fun u v c => arF M True v u c
abbrev srB (M : Mz) (t : Nat) : Nat → Prop := fun v => v / 2 = t ∧ v < 2 * z_nR M
theorem arB_ok {M : Mz} {N t : Nat} (hw : wf M N) (ht : t < z_nR M) : okA (arB M) (srB M t) (2 * z_nR M) := by
  refine ⟨fun u v c h => ?_, fun v hv => hv.2⟩
  obtain ⟨a, b, c1, d⟩ := (arF_ok (s0 := 2 * t) (w := True) hw (by omega)).1 v u c h
  exact ⟨b, a, c1, d⟩
noncomputable def dB (M : Mz) (t v : Nat) : Option Nat := dst (arB M) (srB M t) v
/-- the door that the way told takes -/
def nxP (M : Mz) (t u d : Nat) : Prop := z_open M u d ∧ ∃ c, dB M t (z_to M u d) = some c ∧ dB M t u = some (c + z_need M (u / 2))
noncomputable def nx (M : Mz) (t u : Nat) : Nat := match @fnd (nxP M t u) (fun _ => Classical.propDecidable _) (z_nD M) with
  | some d => z_to M u d
  | none => flp u
noncomputable def trk (M : Mz) (t u : Nat) : Nat → Nat
  | 0 => u
  | k + 1 => nx M t (trk M t u k)
theorem nx_lt {M : Mz} {N t u : Nat} (hw : wf M N) (hu : u < 2 * z_nR M) : nx M t u < 2 * z_nR M := by
  unfold nx
  split
  · rename_i d hd
    exact z_to_lt hw (@fnd_is _ (fun _ => Classical.propDecidable _) _ _ hd).1
  · exact flp_lt hu
theorem trk_lt {M : Mz} {N t u : Nat} (hw : wf M N) (hu : u < 2 * z_nR M) : ∀ k, trk M t u k < 2 * z_nR M := by
  intro k
  induction k with
  | zero => exact hu
  | succ k ih => exact nx_lt hw ih
theorem nx_c {M : Mz} {N t u c : Nat} (hw : wf M N) (hD : ∀ v, v < 2 * z_nR M → isD (arB M) (srB M t) v (dB M t v)) (hu : u < 2 * z_nR M) (hc : dB M t u = some c) (hn : ¬ u / 2 = t) : ∃ c2, c2 < c ∧ dB M t (nx M t u) = some c2 := by
  unfold nx
  split
  · rename_i d hd
    obtain ⟨-, h2, c2, h3, h4⟩ := @fnd_is _ (fun _ => Classical.propDecidable _) _ _ hd
    rw [hc] at h4
    have := z_need_pos M (u / 2)
    exact ⟨c2, by cases h4; omega, h3⟩
  · rename_i hd
    have h1 := hD u hu
    rw [hc] at h1
    rcases wlk_c h1.1 with ⟨h2, -⟩ | ⟨u2, c', w, h2, h3, h4⟩
    · exact absurd h2.1 hn
    · have hu2 : u2 < 2 * z_nR M := ((arF_ok (s0 := u) (w := True) hw hu).1 _ _ _ h3).2.1
      have h5 := hD u2 hu2
      -- u2's distance is c'
      have h6 : dB M t u2 = some c' := by
        cases hdu : dB M t u2 with
        | none => rw [hdu] at h5; exact absurd h2 (h5 c')
        | some c3 =>
          rw [hdu] at h5
          have a1 := h5.2 c' h2
          have a2 := h1.2 _ (wlk_s h5.1 h3)
          rw [show c3 = c' by omega]
      rcases h3.2 with ⟨-, e1, e2⟩ | ⟨d, e1, e2, e3, e4⟩
      · subst e1; exact ⟨c', by omega, h6⟩
      · exfalso
        unfold fnd at hd
        rw [List.find?_eq_none] at hd
        refine hd d (List.mem_range.mpr e1) ?_
        refine @decide_eq_true _ (Classical.propDecidable _) ⟨e2, c', ?_, ?_⟩
        · rw [← e3]; exact h6
        · rw [hc, h4, e4]
section SP
variable {G : Gt} {q : Nat} {A : Nat → Nat} {s : MS} {h0 : Hp} {N : Nat} {M : Mz}
theorem s7 (hd : Dis q A) {KI : Int32 → Prop} {i : Nat} (hi : i < 20) : aI (ovl q A s h0) (some (A 7)) 0 (nI i) KI ↔ KI (s.1 7 i) := by
  rw [aI_m hd 7 (by decide), vp_n (by omega), nI_clamp (by omega)]
  exact ⟨fun z => z.2, fun z => ⟨hi, z⟩⟩
theorem p7 (hd : Dis q A) {KH : Hp → Prop} {x : Int32} {i : Nat} (hi : i < 20) : sI (ovl q A s h0) (some (A 7)) (nI i) x KH ↔ KH (ovl q A (aU s 7 (upd (s.1 7) i x)) h0) := by
  rw [sI_m hd 7 (by decide), vp_n (by omega), nI_clamp (by omega)]
  exact ⟨fun z => z.2, fun z => ⟨hi, z⟩⟩
abbrev vB (G : Gt) (E : Ev) (K : Hp → Prop) (h : Hp) (pc : Nat) (lv : List (Nat × Value)) : Prop := V G E Y_X2_looksBack cX2_looksBack 5 (QM G E (kV K) xN) h 0 0 pc lv []
theorem mx_looksBack {t : Nat} {K : Hp → Prop} (hG : Base G) (hd : Dis q A) (hg : gRep (s.1 0) M) (hw : wf M N) (ht : t < z_nR M) (k : ∀ f, spA (arB M) (srB M t) (2 * z_nR M) 9999 f → (∀ v, v < 2 * z_nR M → isD (arB M) (srB M t) v (dB M t v)) → K (ovl q A (aU s 7 f) h0)) : MM G Y_X2_looksBack cX2_looksBack 5 0 0 [.ref q, .int (nI t)] (ovl q A s h0) (kV K) xN := by
  have hR := wf_nR hw
  have hD := wf_nD hw
  refine b_X2_looksBack hG (fun E => s_X2_looksBack_0 hG (Nat.le_refl _) (Nat.le_refl _) ?_)
  have hg' : ∀ f, gRep ((aU s 7 f).1 0) M := fun f => by rw [aU_n (by decide)]; exact hg
  have hok := arB_ok hw ht
  have rounds : ∀ r, r ≤ 20 → ∀ f g, spR f g 9999 → snd_ (arB M) (srB M t) 9999 g (2 * z_nR M) → (∀ v, srB M t v → g v = 0) → nst (arB M) (srB M t) g r (2 * z_nR M) → vB G E K (ovl q A (aU s 7 f) h0) 36 [(0, .ref q), (2, .int (nI r))] := by
    refine up_to (fun f g hf hs h1 hn => ?_) (fun r hr ih f0 g0 hf0 hs0 h10 hn0 => ?_)
    · refine s_X2_looksBack_36 hG (Nat.le_refl _) (Nat.le_refl _) ⟨fun _ => ?_, fun e => absurd (nI_le (Nat.le_refl 20) (by decide)) e⟩
      have hst := nst_all hn (by omega)
      refine k f (spA_i hf (by omega) (by decide) hs hst) (fun v hv => ?_)
      have := stl_D hs (by decide) hv (hst v hv)
      unfold dB; rw [dst_is this]; exact this
    · refine s_X2_looksBack_36 hG (Nat.le_refl _) (Nat.le_refl _) ⟨fun e => absurd e (nI_ge hr (by decide)), fun _ => ?_⟩
      have spots : ∀ i, i ≤ 2 * z_nR M → ∀ f g, spR f g 9999 → inR (arB M) (srB M t) 9999 (2 * z_nR M) g0 g (fun _ v _ => v < i) → vB G E K (ovl q A (aU s 7 f) h0) 44 [(0, .ref q), (2, .int (nI r)), (3, .int (nI i))] := by
        refine up_to (fun f g hf hi => ?_) (fun i hi ihi f g hf hin => ?_)
        · refine s_X2_looksBack_44 hG (Nat.le_refl _) (Nat.le_refl _) ?_
          unfold g_X2_looksBack_44
          rw [gR_m0, ga0 hd, gr_nR (hg' f), show (2 : Int32) = nI 2 from rfl, pk_mul]
          refine ⟨fun _ => ?_, fun e => absurd (nI_le (Nat.le_refl _) (by omega)) e⟩
          rw [nI_1]
          obtain ⟨i1, i2, i3, i4⟩ := hi
          refine ih f g hf i1 i2 (nst_s hok ⟨i3, fun u v c hu => i4 u v c hu hu.1⟩ h10 hn0)
        · have doors : ∀ d, d ≤ z_nD M → ∀ f g, spR f g 9999 → inR (arB M) (srB M t) 9999 (2 * z_nR M) g0 g (fun u v c => v < i ∨ (v = i ∧ ((True ∧ u = flp v ∧ c = 1) ∨ ∃ d2, d2 < d ∧ z_open M v d2 ∧ u = z_to M v d2 ∧ c = z_need M (v / 2)))) → vB G E K (ovl q A (aU s 7 f) h0) 84 [(0, .ref q), (2, .int (nI r)), (3, .int (nI i)), (4, .int (nI d))] := by
            refine up_to (fun f g hf hin => ?_) (fun d hdd ihd f g hf hin => ?_)
            · refine s_X2_looksBack_84 hG (Nat.le_refl _) (Nat.le_refl _) ?_
              unfold g_X2_looksBack_84
              rw [gR_m0, ga1 hd, gr_nD (hg' f)]
              refine ⟨fun _ => ?_, fun e => absurd (nI_le (Nat.le_refl _) (by omega)) e⟩
              rw [nI_1]
              refine ihi f g hf (inR_D hin (fun u v c hu hlt => Or.inl ?_))
              by_cases e : v = i
              · exact Or.inr ⟨e, hu.2⟩
              · exact Or.inl (by omega)
            · refine s_X2_looksBack_84 hG (Nat.le_refl _) (Nat.le_refl _) ?_
              unfold g_X2_looksBack_84
              rw [gR_m0, ga1 hd, gr_nD (hg' f)]
              refine ⟨fun e => absurd e (nI_ge hdd (by omega)), fun _ => ?_⟩
              rw [rv_m]
              refine mx_isOpenTo hd (hg' f) hw hi hdd (bI_z (fun c => ?_) (fun c => ?_))
              · rw [nI_1]
                refine ihd f g hf (inR_D hin (fun u v cc hu hlt => Or.inl ?_))
                rcases hlt with h1 | ⟨h1, h2 | ⟨d2, h2, h3, h4⟩⟩
                · exact Or.inl h1
                · exact Or.inr ⟨h1, Or.inl h2⟩
                · refine Or.inr ⟨h1, Or.inr ⟨d2, ?_, h3, h4⟩⟩
                  by_cases e : d2 = d
                  · subst e; subst h1; exact absurd h3 c
                  · omega
              · have ht := z_to_lt (u := i) hw hdd
                have hne := z_need_pos M (i / 2)
                have b1 := hf (z_to M i d) (by omega)
                have b2 := hf i (by omega)
                rw [gR_m14, gR_m14, s7 hd (by omega), gR_m14, rv_m]
                refine mx_comesBy hd (hg' f) hw hi hdd ?_
                rw [s7 hd (by omega), aU_s, nI_half (by omega), rv_m]
                refine mx_needs hd (hg' f) hw (by omega) ?_
                rw [b1.1, b2.1, nI_add]
                refine mx_least (by omega) (by omega) ?_
                rw [p7 hd (by omega), aU_aU, aU_s, nI_1]
                have harc : arB M (z_to M i d) i (z_need M (i / 2)) := ⟨hi, Or.inr ⟨d, hdd, c, rfl, rfl⟩⟩
                refine ihd _ _ (spR_u hf (by omega)) (inR_D (inR_u hin harc ht) (fun u v cc hu hlt => Or.inl ?_))
                rcases hlt with h1 | ⟨h1, h2 | ⟨d2, h2, h3, h4⟩⟩
                · exact Or.inl (Or.inl h1)
                · exact Or.inl (Or.inr ⟨h1, Or.inl h2⟩)
                · by_cases e : d2 = d
                  · subst e; subst h1; exact Or.inr ⟨h4.1, rfl, h4.2⟩
                  · exact Or.inl (Or.inr ⟨h1, Or.inr ⟨d2, by omega, h3, h4⟩⟩)
          refine s_X2_looksBack_44 hG (Nat.le_refl _) (Nat.le_refl _) ?_
          unfold g_X2_looksBack_44
          have hfl := flp_lt hi
          have b2 := hf i (by omega)
          have b1 := hf (flp i) (by omega)
          rw [gR_m0, ga0 hd, gr_nR (hg' f), show (2 : Int32) = nI 2 from rfl, pk_mul]
          refine ⟨fun e => absurd e (nI_ge hi (by omega)), fun _ => ?_⟩
          rw [gR_m14, gR_m14, s7 hd (by omega), gR_m14, flp_x (by omega), s7 hd (by omega), aU_s, b1.1, b2.1, nI_1]
          refine mx_least (by omega) (by omega) ?_
          rw [p7 hd (by omega), aU_aU, aU_s]
          have harc : arB M (flp i) i 1 := ⟨hi, Or.inl ⟨trivial, rfl, rfl⟩⟩
          refine doors 0 (Nat.zero_le _) _ _ (spR_u hf (by omega)) (inR_D (inR_u hin harc hfl) (fun u v cc hu hlt => Or.inl ?_))
          rcases hlt with h1 | ⟨h1, h2 | ⟨d2, h2, h3, h4⟩⟩
          · exact Or.inl h1
          · subst h1; exact Or.inr ⟨h2.2.1, rfl, h2.2.2⟩
          · omega
      exact spots 0 (Nat.zero_le _) f0 g0 hf0 ⟨hs0, h10, fun _ => Nat.le_refl _, fun u v c _ hlt => absurd hlt (Nat.not_lt_zero _)⟩
  have start : ∀ j, j ≤ 20 → ∀ f, (∀ v, v < j → f v = nI (if v / 2 = t then 0 else 9999)) → vB G E K (ovl q A (aU s 7 f) h0) 2 [(0, .ref q), (1, .int (nI t)), (2, .int (nI j))] := by
    refine up_to (fun f hf => ?_) (fun j hj ih f hf => ?_)
    · refine s_X2_looksBack_2 hG (Nat.le_refl _) (Nat.le_refl _) ⟨fun _ => ?_, fun e => absurd (nI_le (Nat.le_refl 20) (by decide)) e⟩
      refine rounds 0 (Nat.zero_le _) f (fun v => if v / 2 = t then 0 else 9999) (fun v hv => ?_) (fun v hv => ?_) (fun v hv => if_pos hv.1) nst_0
      · refine ⟨hf v hv, ?_⟩
        show (if v / 2 = t then 0 else 9999) ≤ 9999
        split <;> omega
      · show (if v / 2 = t then 0 else 9999) ≤ 9999 ∧ ((if v / 2 = t then 0 else 9999) < 9999 → wlk (arB M) (srB M t) v (if v / 2 = t then 0 else 9999))
        by_cases e : v / 2 = t
        · rw [if_pos e]; exact ⟨by decide, fun _ => wlk_0 ⟨e, hv⟩⟩
        · rw [if_neg e]; exact ⟨Nat.le_refl _, fun z => absurd z (Nat.lt_irrefl _)⟩
    · refine s_X2_looksBack_2 hG (Nat.le_refl _) (Nat.le_refl _) ⟨fun e => absurd e (nI_ge hj (by decide)), fun _ => ?_⟩
      rw [gR_m14, nI_half (by omega), nI_is (by omega) (by omega), nI_1]
      refine ⟨fun e => ?_, fun e => ?_⟩
      · rw [p7 hd (by omega), aU_aU, aU_s]
        refine ih _ (fun v hv => ?_)
        by_cases e2 : v = j
        · subst e2; rw [pk_us, if_neg e]; rfl
        · rw [pk_un e2]; exact hf v (by omega)
      · rw [p7 hd (by omega), aU_aU, aU_s]
        refine ih _ (fun v hv => ?_)
        by_cases e2 : v = j
        · subst e2; rw [pk_us, if_pos e]; rfl
        · rw [pk_un e2]; exact hf v (by omega)
  have := start 0 (Nat.zero_le _) (s.1 7) (fun v hv => absurd hv (Nat.not_lt_zero _))
  rw [show aU s 7 (s.1 7) = s from Prod.ext (funext fun i => by by_cases e : i = 7; (subst e; exact aU_s); exact aU_n e) rfl] at this
  exact this
theorem mx_goesOn {t u c : Nat} {K : Int32 → Hp → Prop} (hG : Base G) (hd : Dis q A) (hg : gRep (s.1 0) M) (hw : wf M N) (hu : u < 2 * z_nR M) (hf : spA (arB M) (srB M t) (2 * z_nR M) 9999 (s.1 7)) (hc : dB M t u = some c) (k : K (nI (nx M t u)) (ovl q A s h0)) : MM G Y_X2_goesOn cX2_goesOn 3 0 0 [.ref q, .int (nI u)] (ovl q A s h0) (kI K) xN := by
  have hR := wf_nR hw
  have hD := wf_nD hw
  refine b_X2_goesOn hG (fun E => s_X2_goesOn_0 hG (Nat.le_refl _) (Nat.le_refl _) ?_)
  have hne := z_need_pos M (u / 2)
  have hfu := hf u hu
  rw [show dst (arB M) (srB M t) u = some c from hc] at hfu
  have key : ∀ j, j ≤ z_nD M → (∀ d, d < j → ¬ nxP M t u d) → V G E Y_X2_goesOn cX2_goesOn 3 (QM G E (kI K) xN) (ovl q A s h0) 0 0 2 [(0, .ref q), (1, .int (nI u)), (2, .int (nI j))] [] := by
    refine up_to (fun hn => ?_) (fun j hj ih hn => ?_)
    · refine s_X2_goesOn_2 hG (Nat.le_refl _) (Nat.le_refl _) ?_
      unfold g_X2_goesOn_2
      rw [gR_m0, ga1 hd, gr_nD hg]
      refine ⟨fun _ => ?_, fun e => absurd (nI_le (Nat.le_refl _) (by omega)) e⟩
      unfold nx at k
      rw [@fnd_n _ (fun _ => Classical.propDecidable _) _ hn] at k
      rw [flp_x (by omega)]; exact k
    · have ih' : ¬ nxP M t u j → V G E Y_X2_goesOn cX2_goesOn 3 (QM G E (kI K) xN) (ovl q A s h0) 0 0 2 [(0, .ref q), (1, .int (nI u)), (2, .int (nI j + 1))] [] := by
        intro hp
        rw [nI_1]
        refine ih (fun d hdj => ?_)
        by_cases e : d = j
        · subst e; exact hp
        · exact hn d (by omega)
      refine s_X2_goesOn_2 hG (Nat.le_refl _) (Nat.le_refl _) ?_
      unfold g_X2_goesOn_2
      rw [gR_m0, ga1 hd, gr_nD hg]
      refine ⟨fun e => absurd e (nI_ge hj (by omega)), fun _ => ?_⟩
      rw [rv_m]
      refine mx_isOpenTo hd hg hw hu hj (bI_z (fun e => ih' (fun z => e z.1)) (fun e => ?_))
      rw [gR_m14, rv_m]
      refine mx_comesBy hd hg hw hu hj ?_
      have ht := z_to_lt (u := u) hw hj
      have hft := hf (z_to M u j) ht
      rw [s7 hd (by omega), nI_half (by omega), rv_m]
      refine mx_needs hd hg hw (by omega) ?_
      rw [gR_m14, s7 hd (by omega), hfu.1, hft.1, nI_add]
      have hcb := hfu.2 c rfl
      cases hdt : dst (arB M) (srB M t) (z_to M u j) with
      | none =>
        show (¬ nI (9999 + z_need M (u / 2)) = nI c → _) ∧ _
        refine ⟨fun _ => ih' (fun ⟨_, c2, z, _⟩ => ?_), fun z => ?_⟩
        · unfold dB at z; rw [hdt] at z; cases z
        · have z : nI (9999 + z_need M (u / 2)) = nI c := z
          rw [nI_is (by omega) (by omega)] at z; omega
      | some c2 =>
        have hcb2 := hft.2 c2 hdt
        show (¬ nI (c2 + z_need M (u / 2)) = nI c → _) ∧ (nI (c2 + z_need M (u / 2)) = nI c → _)
        rw [nI_is (by omega) (by omega)]
        refine ⟨fun e2 => ih' (fun ⟨_, c3, z, z2⟩ => ?_), fun e2 => ?_⟩
        · unfold dB at z; rw [hdt] at z; cases z
          rw [hc] at z2; cases z2; exact e2 rfl
        · rw [rv_m]
          refine mx_comesBy hd hg hw hu hj ?_
          unfold nx at k
          rw [@fnd_s _ (fun _ => Classical.propDecidable _) _ _ hj (show nxP M t u j from ⟨e, c2, hdt, by rw [hc, e2]⟩) hn] at k
          exact k
  exact key 0 (Nat.zero_le _) (fun d hdj => absurd hdj (Nat.not_lt_zero _))
/-- the answer of onWay -/
noncomputable def rOnWay (M : Mz) (x y p pl : Int32) : Int32 := if (ix x (z_nR M) ∧ ix y (z_nR M)) ∧ 0 ≤ pl then (if inn p 0 1 then (match dB M (nN y) (2 * nN x + nN p) with
  | none => -1015
  | some _ => match fnd (fun k => trk M (nN y) (2 * nN x + nN p) k / 2 = nN y) (nN pl) with
    | some _ => -1011
    | none => nI (trk M (nN y) (2 * nN x + nN p) (nN pl) / 2)) else -1012) else -1011
end SP
