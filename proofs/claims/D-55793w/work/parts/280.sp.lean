/-! THE MODEL'S SPREADS -/
set_option maxRecDepth 100000
def flp (u : Nat) : Nat := if u % 2 = 0 then u + 1 else u - 1
theorem flp_x {u : Nat} (h : u < 20) : nI u ^^^ (1 : Int32) = nI (flp u) := by
  have : ∀ u : Fin 20, nI u.1 ^^^ (1 : Int32) = nI (flp u.1) := by decide +kernel
  exact this ⟨u, h⟩
theorem flp_lt {u n : Nat} (h : u < 2 * n) : flp u < 2 * n := by unfold flp; split <;> omega
/-- the arcs: waiting if w, and the doors that are open from a spot -/
def arF (M : Mz) (w : Prop) : Arc := fun u v c => u < 2 * z_nR M ∧ ((w ∧ v = flp u ∧ c = 1) ∨ ∃ d, d < z_nD M ∧ z_open M u d ∧ v = z_to M u d ∧ c = z_need M (u / 2))
theorem z_to_lt {M : Mz} {N u d : Nat} (hw : wf M N) (hd : d < z_nD M) : z_to M u d < 2 * z_nR M := by
  have := d_beh_lt hw hd (u / 2)
  unfold z_to
  have h2 : (u + z_need M (u / 2)) % 2 < 2 := Nat.mod_lt _ (by decide)
  omega
theorem arF_ok {M : Mz} {N s0 : Nat} {w : Prop} (hw : wf M N) (h : s0 < 2 * z_nR M) : okA (arF M w) (fun v => v = s0) (2 * z_nR M) := by
  refine ⟨fun u v c ⟨h1, h2⟩ => ?_, fun v hv => by rw [hv]; exact h⟩
  rcases h2 with ⟨-, h3, h4⟩ | ⟨d, h3, -, h5, h6⟩
  · subst h3; exact ⟨h1, flp_lt h1, by omega, by omega⟩
  · subst h5; have := z_need_pos M (u / 2); exact ⟨h1, z_to_lt hw h3, by omega, by omega⟩
theorem rlx_s {A : Arc} {S : Nat → Prop} {far n u v w : Nat} {g : Nat → Nat} (hs : snd_ A S far g n) (ha : A u v w) (hu : u < n) : snd_ A S far (upN g v (min (g v) (g u + w))) n := by
  intro x hx
  by_cases e : x = v
  · subst e
    rw [upN_s]
    obtain ⟨a, b⟩ := hs x hx
    obtain ⟨c, d⟩ := hs u hu
    refine ⟨by omega, fun hl => ?_⟩
    by_cases e2 : g x ≤ g u + w
    · rw [Nat.min_eq_left e2] at hl ⊢; exact b hl
    · rw [Nat.min_eq_right (by omega)] at hl ⊢
      exact wlk_s (d (by omega)) ha
  · rw [upN_n e]; exact hs x hx
theorem rlx_le {g : Nat → Nat} {v x : Nat} {z : Nat} : upN g v (min (g v) z) x ≤ g x := by
  by_cases e : x = v
  · subst e; rw [upN_s]; omega
  · rw [upN_n e]; omega
theorem rlx_v {g : Nat → Nat} {v : Nat} {z : Nat} : upN g v (min (g v) z) v ≤ z := by rw [upN_s]; omega
def spR (f : Nat → Int32) (g : Nat → Nat) (far : Nat) : Prop := ∀ v, v < 20 → f v = nI (g v) ∧ g v ≤ far
theorem spR_u {f : Nat → Int32} {g : Nat → Nat} {v z far : Nat} (h : spR f g far) (hz : z ≤ far) : spR (upd f v (nI z)) (upN g v z) far := by
  intro x hx
  by_cases e : x = v
  · subst e; rw [pk_us, upN_s]; exact ⟨rfl, hz⟩
  · rw [pk_un e, upN_n e]; exact h x hx
/-- within a round from g0: what is done for the arcs in D -/
def inR (A : Arc) (S : Nat → Prop) (far n : Nat) (g0 g : Nat → Nat) (D : Nat → Nat → Nat → Prop) : Prop := snd_ A S far g n ∧ (∀ v, S v → g v = 0) ∧ (∀ v, g v ≤ g0 v) ∧ ∀ u v w, A u v w → D u v w → g v ≤ g0 u + w
theorem inR_u {A : Arc} {S : Nat → Prop} {far n u v w : Nat} {g0 g : Nat → Nat} {D : Nat → Nat → Nat → Prop} (h : inR A S far n g0 g D) (ha : A u v w) (hu : u < n) : inR A S far n g0 (upN g v (min (g v) (g u + w))) (fun u2 v2 w2 => D u2 v2 w2 ∨ (u2 = u ∧ v2 = v ∧ w2 = w)) := by
  obtain ⟨h1, h2, h3, h4⟩ := h
  refine ⟨rlx_s h1 ha hu, fun x hx => ?_, fun x => Nat.le_trans rlx_le (h3 x), fun u2 v2 w2 ha2 hD => ?_⟩
  · have := h2 x hx; have := rlx_le (g := g) (v := v) (x := x) (z := g u + w); omega
  · rcases hD with hD | ⟨e1, e2, e3⟩
    · exact Nat.le_trans rlx_le (h4 _ _ _ ha2 hD)
    · subst e1; subst e2; subst e3
      have := rlx_v (g := g) (v := v2) (z := g u2 + w2); have := h3 u2; omega
theorem inR_D {A : Arc} {S : Nat → Prop} {far n : Nat} {g0 g : Nat → Nat} {D D2 : Nat → Nat → Nat → Prop} (h : inR A S far n g0 g D) (hD : ∀ u v w, A u v w → D2 u v w → D u v w ∨ g v ≤ g0 u + w) : inR A S far n g0 g D2 := by
  obtain ⟨h1, h2, h3, h4⟩ := h
  refine ⟨h1, h2, h3, fun u v w ha h5 => ?_⟩
  rcases hD u v w ha h5 with h6 | h6
  · exact h4 u v w ha h6
  · exact h6
/-- the answer of spreads in the array -/
def spA (A : Arc) (S : Nat → Prop) (n far : Nat) (f : Nat → Int32) : Prop := ∀ v, v < n → f v = nI ((dst A S v).getD far) ∧ ∀ c, dst A S v = some c → c ≤ 40
theorem spA_i {A : Arc} {S : Nat → Prop} {n far : Nat} {f : Nat → Int32} {g : Nat → Nat} (h : spR f g far) (hn : n ≤ 20) (hf : 40 < far) (hs : snd_ A S far g n) (hh : ∀ v, v < n → stl A S g 20 v) : spA A S n far f := by
  intro v hv
  have hD := dst_is (stl_D hs (by omega) hv (hh v hv))
  rw [hD, (h v (by omega)).1]
  by_cases e : g v = far
  · rw [if_pos e]; exact ⟨by rw [e]; rfl, fun c hc => by cases hc⟩
  · rw [if_neg e]
    refine ⟨rfl, fun c hc => ?_⟩
    cases hc
    obtain ⟨s1, s2⟩ := hs v hv
    rcases hh v hv with h2 | h2
    · exact absurd (s2 (by omega)) (h2 _)
    · omega
section SP
variable {G : Gt} {q : Nat} {A : Nat → Nat} {s : MS} {h0 : Hp} {N : Nat} {K : Hp → Prop} {M : Mz}
theorem s6 (hd : Dis q A) {KI : Int32 → Prop} {i : Nat} (hi : i < 20) : aI (ovl q A s h0) (some (A 6)) 0 (nI i) KI ↔ KI (s.1 6 i) := by
  rw [aI_m hd 6 (by decide), vp_n (by omega), nI_clamp (by omega)]
  exact ⟨fun z => z.2, fun z => ⟨hi, z⟩⟩
theorem p6 (hd : Dis q A) {KH : Hp → Prop} {x : Int32} {i : Nat} (hi : i < 20) : sI (ovl q A s h0) (some (A 6)) (nI i) x KH ↔ KH (ovl q A (aU s 6 (upd (s.1 6) i x)) h0) := by
  rw [sI_m hd 6 (by decide), vp_n (by omega), nI_clamp (by omega)]
  exact ⟨fun z => z.2, fun z => ⟨hi, z⟩⟩
abbrev vS (G : Gt) (E : Ev) (K : Hp → Prop) (h : Hp) (pc : Nat) (lv : List (Nat × Value)) : Prop := V G E Y_X2_spreads cX2_spreads 7 (QM G E (kV K) xN) h 0 0 pc lv []
theorem mx_spreads {a p : Nat} {w : Prop} [Decidable w] (hG : Base G) (hd : Dis q A) (hg : gRep (s.1 0) M) (hw : wf M N) (ha : a < z_nR M) (hp : p < 2) (k : ∀ f, spA (arF M w) (fun v => v = 2 * a + p) (2 * z_nR M) 9999 f → K (ovl q A (aU s 6 f) h0)) : MM G Y_X2_spreads cX2_spreads 7 0 0 [.ref q, .int (nI a), .int (nI p), .int (bI w)] (ovl q A s h0) (kV K) xN := by
  have hR := wf_nR hw
  have hD := wf_nD hw
  refine b_X2_spreads hG (fun E => s_X2_spreads_0 hG (Nat.le_refl _) (Nat.le_refl _) ?_)
  have hg' : ∀ f, gRep ((aU s 6 f).1 0) M := fun f => by rw [aU_n (by decide)]; exact hg
  have hok := arF_ok (w := w) (s0 := 2 * a + p) hw (by omega)
  -- the rounds
  have rounds : ∀ r, r ≤ 20 → ∀ f g, spR f g 9999 → snd_ (arF M w) (fun v => v = 2 * a + p) 9999 g (2 * z_nR M) → (∀ v, v = 2 * a + p → g v = 0) → nst (arF M w) (fun v => v = 2 * a + p) g r (2 * z_nR M) → vS G E K (ovl q A (aU s 6 f) h0) 40 [(0, .ref q), (3, .int (bI w)), (4, .int (nI r))] := by
    refine up_to (fun f g hf hs h1 hn => ?_) (fun r hr ih f0 g0 hf0 hs0 h10 hn0 => ?_)
    · refine s_X2_spreads_40 hG (Nat.le_refl _) (Nat.le_refl _) ⟨fun _ => ?_, fun e => absurd (nI_le (Nat.le_refl 20) (by decide)) e⟩
      exact k f (spA_i hf (by omega) (by decide) hs (nst_all hn (by omega)))
    · refine s_X2_spreads_40 hG (Nat.le_refl _) (Nat.le_refl _) ⟨fun e => absurd e (nI_ge hr (by decide)), fun _ => ?_⟩
      have spots : ∀ i, i ≤ 2 * z_nR M → ∀ f g, spR f g 9999 → inR (arF M w) (fun v => v = 2 * a + p) 9999 (2 * z_nR M) g0 g (fun u _ _ => u < i) → vS G E K (ovl q A (aU s 6 f) h0) 50 [(0, .ref q), (3, .int (bI w)), (4, .int (nI r)), (5, .int (nI i))] := by
        refine up_to (fun f g hf hi => ?_) (fun i hi ihi f g hf hin => ?_)
        · refine s_X2_spreads_50 hG (Nat.le_refl _) (Nat.le_refl _) ?_
          unfold g_X2_spreads_50
          rw [gR_m0, ga0 hd, gr_nR (hg' f), show (2 : Int32) = nI 2 from rfl, pk_mul]
          refine ⟨fun _ => ?_, fun e => absurd (nI_le (Nat.le_refl _) (by omega)) e⟩
          rw [nI_1]
          obtain ⟨i1, i2, i3, i4⟩ := hi
          refine ih f g hf i1 i2 (nst_s hok ⟨i3, fun u v c hu => i4 u v c hu hu.1⟩ h10 hn0)
        · have doors : ∀ d, d ≤ z_nD M → ∀ f g, spR f g 9999 → inR (arF M w) (fun v => v = 2 * a + p) 9999 (2 * z_nR M) g0 g (fun u v c => u < i ∨ (u = i ∧ ((w ∧ v = flp u ∧ c = 1) ∨ ∃ d2, d2 < d ∧ z_open M u d2 ∧ v = z_to M u d2 ∧ c = z_need M (u / 2)))) → vS G E K (ovl q A (aU s 6 f) h0) 116 [(0, .ref q), (3, .int (bI w)), (4, .int (nI r)), (5, .int (nI i)), (6, .int (nI d))] := by
            refine up_to (fun f g hf hin => ?_) (fun d hdd ihd f g hf hin => ?_)
            · refine s_X2_spreads_116 hG (Nat.le_refl _) (Nat.le_refl _) ?_
              unfold g_X2_spreads_116
              rw [gR_m0, ga1 hd, gr_nD (hg' f)]
              refine ⟨fun _ => ?_, fun e => absurd (nI_le (Nat.le_refl _) (by omega)) e⟩
              rw [nI_1]
              refine ihi f g hf (inR_D hin (fun u v c hu hlt => Or.inl ?_))
              by_cases e : u = i
              · exact Or.inr ⟨e, hu.2⟩
              · exact Or.inl (by omega)
            · refine s_X2_spreads_116 hG (Nat.le_refl _) (Nat.le_refl _) ?_
              unfold g_X2_spreads_116
              rw [gR_m0, ga1 hd, gr_nD (hg' f)]
              refine ⟨fun e => absurd e (nI_ge hdd (by omega)), fun _ => ?_⟩
              rw [rv_m]
              refine mx_isOpenTo hd (hg' f) hw hi hdd (bI_z (fun c => ?_) (fun c => ?_))
              · rw [nI_1]
                refine ihd f g hf (inR_D hin (fun u v cc hu hlt => Or.inl ?_))
                rcases hlt with h1 | ⟨h1, h2 | ⟨d2, h2, h3, h4⟩⟩
                · exact Or.inl h1
                · exact Or.inr ⟨h1, Or.inl h2⟩
                · refine Or.inr ⟨h1, Or.inr ⟨d2, ?_, h3, h4⟩⟩
                  by_cases e : d2 = d
                  · subst e; subst h1; exact absurd h3 c
                  · omega
              · rw [gR_m13, rv_m]
                refine mx_comesBy hd (hg' f) hw hi hdd ?_
                rw [gR_m13, rv_m]
                refine mx_comesBy hd (hg' f) hw hi hdd ?_
                have ht := z_to_lt (u := i) hw hdd
                have hne := z_need_pos M (i / 2)
                rw [s6 hd (by omega), gR_m13, s6 hd (by omega), aU_s, nI_half (by omega), rv_m]
                refine mx_needs hd (hg' f) hw (by omega) ?_
                have b1 := hf (z_to M i d) (by omega)
                have b2 := hf i (by omega)
                rw [b1.1, b2.1, nI_add]
                refine mx_least (by omega) (by omega) ?_
                rw [p6 hd (by omega), aU_aU, aU_s, nI_1]
                have harc : arF M w i (z_to M i d) (z_need M (i / 2)) := ⟨hi, Or.inr ⟨d, hdd, c, rfl, rfl⟩⟩
                refine ihd _ _ (spR_u hf (by omega)) (inR_D (inR_u hin harc hi) (fun u v cc hu hlt => Or.inl ?_))
                rcases hlt with h1 | ⟨h1, h2 | ⟨d2, h2, h3, h4⟩⟩
                · exact Or.inl (Or.inl h1)
                · exact Or.inl (Or.inr ⟨h1, Or.inl h2⟩)
                · by_cases e : d2 = d
                  · subst e; subst h1; exact Or.inr ⟨rfl, h4⟩
                  · exact Or.inl (Or.inr ⟨h1, Or.inr ⟨d2, by omega, h3, h4⟩⟩)
          refine s_X2_spreads_50 hG (Nat.le_refl _) (Nat.le_refl _) ?_
          unfold g_X2_spreads_50
          have b2 := hf i (by omega)
          rw [gR_m0, ga0 hd, gr_nR (hg' f), show (2 : Int32) = nI 2 from rfl, pk_mul]
          refine ⟨fun e => absurd e (nI_ge hi (by omega)), fun _ => ?_⟩
          rw [gR_m13, s6 hd (by omega), aU_s, b2.1, show (9999 : Int32) = nI 9999 from rfl, nI_is (by omega) (by omega)]
          refine ⟨fun e => bI_z (fun c => ?_) (fun c => ?_), fun e => ?_⟩
          · refine doors 0 (Nat.zero_le _) f g hf (inR_D hin (fun u v cc hu hlt => Or.inl ?_))
            rcases hlt with h1 | ⟨h1, h2 | ⟨d2, h2, h3, h4⟩⟩
            · exact h1
            · exact absurd h2.1 c
            · omega
          · have hfl := flp_lt hi
            have b1 := hf (flp i) (by omega)
            rw [gR_m13, gR_m13, flp_x (by omega), s6 hd (by omega), gR_m13, s6 hd (by omega), aU_s, b1.1, b2.1, nI_1]
            refine mx_least (by omega) (by omega) ?_
            rw [p6 hd (by omega), aU_aU, aU_s]
            have harc : arF M w i (flp i) 1 := ⟨hi, Or.inl ⟨c, rfl, rfl⟩⟩
            refine doors 0 (Nat.zero_le _) _ _ (spR_u hf (by omega)) (inR_D (inR_u hin harc hi) (fun u v cc hu hlt => Or.inl ?_))
            rcases hlt with h1 | ⟨h1, h2 | ⟨d2, h2, h3, h4⟩⟩
            · exact Or.inl h1
            · subst h1; exact Or.inr ⟨rfl, h2.2⟩
            · omega
          · rw [nI_1]
            refine ihi f g hf (inR_D hin (fun u v cc hu hlt => ?_))
            by_cases e2 : u = i
            · subst e2
              right
              have := hin.2.2.1 u
              have hv := (hok.1 _ _ _ hu).2.1
              have := (hf v (by omega)).2
              omega
            · exact Or.inl (by omega)
      exact spots 0 (Nat.zero_le _) f0 g0 hf0 ⟨hs0, h10, fun _ => Nat.le_refl _, fun u v c _ hlt => absurd hlt (Nat.not_lt_zero _)⟩
  -- the start
  have start : ∀ j, j ≤ 20 → ∀ f, (∀ v, v < j → f v = nI 9999) → vS G E K (ovl q A (aU s 6 f) h0) 3 [(0, .ref q), (1, .int (nI a)), (2, .int (nI p)), (3, .int (bI w)), (4, .int (nI j))] := by
    refine up_to (fun f hf => ?_) (fun j hj ih f hf => ?_)
    · refine s_X2_spreads_3 hG (Nat.le_refl _) (Nat.le_refl _) ⟨fun _ => ?_, fun e => absurd (nI_le (Nat.le_refl 20) (by decide)) e⟩
      rw [gR_m13, show (2 : Int32) = nI 2 from rfl, pk_mul, nI_add, p6 hd (by omega), aU_aU, aU_s]
      refine rounds 0 (Nat.zero_le _) _ (upN (fun _ => 9999) (2 * a + p) 0) (fun v hv => ?_) (fun v hv => ?_) (fun v hv => ?_) nst_0
      · by_cases e : v = 2 * a + p
        · subst e; rw [pk_us, upN_s]; exact ⟨rfl, by decide⟩
        · rw [pk_un e, upN_n e]; exact ⟨hf v hv, Nat.le_refl _⟩
      · by_cases e : v = 2 * a + p
        · subst e; rw [upN_s]; exact ⟨by decide, fun _ => wlk_0 rfl⟩
        · rw [upN_n e]; exact ⟨Nat.le_refl _, fun z => absurd z (Nat.lt_irrefl _)⟩
      · subst hv; exact upN_s
    · refine s_X2_spreads_3 hG (Nat.le_refl _) (Nat.le_refl _) ⟨fun e => absurd e (nI_ge hj (by decide)), fun _ => ?_⟩
      rw [gR_m13, p6 hd (by omega), aU_aU, aU_s, nI_1]
      refine ih _ (fun v hv => ?_)
      by_cases e : v = j
      · subst e; rw [pk_us]; rfl
      · rw [pk_un e]; exact hf v (by omega)
  have := start 0 (Nat.zero_le _) (s.1 6) (fun v hv => absurd hv (Nat.not_lt_zero _))
  rw [show aU s 6 (s.1 6) = s from Prod.ext (funext fun i => by by_cases e : i = 6; (subst e; exact aU_s); exact aU_n e) rfl] at this
  exact this
end SP
