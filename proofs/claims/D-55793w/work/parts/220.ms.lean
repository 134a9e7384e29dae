/-! THE MODEL'S SMALL METHODS over its overlay -/
set_option maxRecDepth 100000
section G1
variable {g : Nat → Int32} {M : Mz}
theorem gr_nR (hg : gRep g M) : g 0 = nI (z_nR M) := hg.1
theorem gr_nD (hg : gRep g M) : g 1 = nI (z_nD M) := hg.2.1
theorem gr_at (hg : gRep g M) (h : 0 < z_nR M) : g 2 = nI (z_at M) := by rw [hg.2.2.1, if_neg (by omega)]
theorem gr_at0 (hg : gRep g M) (h : z_nR M = 0) : g 2 = -1 := by rw [hg.2.2.1, if_pos h]
theorem gr_st (hg : gRep g M) : g 3 = nI (z_st M) := hg.2.2.2.1
theorem gr_hd (hg : gRep g M) {c : Nat} (h : c < 3) : g (4 + c) = nI (z_hd M c) := hg.2.2.2.2.1 c h
theorem gr_la (hg : gRep g M) : g 7 = nI (z_la M) := hg.2.2.2.2.2.1
theorem gr_us (hg : gRep g M) : g 8 = nI (z_us M) := hg.2.2.2.2.2.2.1
theorem gr_go (hg : gRep g M) : g 9 = nI (z_go M) := hg.2.2.2.2.2.2.2.1
theorem gr_oil (hg : gRep g M) {r : Nat} (h : r < z_nR M) : g (10 + 4 * r) = nI (z_oil M r) := (hg.2.2.2.2.2.2.2.2.1 r h).1
theorem gr_key (hg : gRep g M) {r c : Nat} (h : r < z_nR M) (hc : c < 3) : g (10 + 4 * r + 1 + c) = nI (z_key M r c) := (hg.2.2.2.2.2.2.2.2.1 r h).2 c hc
theorem gr_d (hg : gRep g M) {d : Nat} (h : d < z_nD M) : g (50 + 6 * d) = nI (d_lo (z_dr M d)) ∧ g (50 + 6 * d + 1) = nI (d_hi (z_dr M d)) ∧ g (50 + 6 * d + 2) = nI (d_kd (z_dr M d)) ∧ g (50 + 6 * d + 3) = d_co (z_dr M d) ∧ g (50 + 6 * d + 4) = nI (d_sh (z_dr M d)) ∧ g (50 + 6 * d + 5) = nI (d_go (z_dr M d)) := hg.2.2.2.2.2.2.2.2.2.1 d h
theorem gr_z (hg : gRep g M) {r c : Nat} (h : z_nR M ≤ r) (h2 : r < 10) (h3 : c < 3) : g (10 + 4 * r + 1 + c) = 0 := hg.2.2.2.2.2.2.2.2.2.2 r c h h2 h3
end G1
section G2
variable {M : Mz} {N : Nat}
theorem wf_nR (hw : wf M N) : z_nR M ≤ 10 := hw.1
theorem wf_nD (hw : wf M N) : z_nD M ≤ 16 := hw.2.1
theorem wf_oil (hw : wf M N) {r : Nat} (h : r < z_nR M) : z_oil M r ≤ 50 := (hw.2.2.1 r h).1
theorem wf_key (hw : wf M N) {r c : Nat} (h : r < z_nR M) (hc : c < 3) : z_key M r c ≤ 9 := (hw.2.2.1 r h).2 c hc
theorem wf_d (hw : wf M N) {d : Nat} (h : d < z_nD M) : d_lo (z_dr M d) < d_hi (z_dr M d) ∧ d_hi (z_dr M d) < z_nR M ∧ d_kd (z_dr M d) ≤ 2 ∧ ((d_co (z_dr M d) = -1 ∧ d_sh (z_dr M d) = 0) ∨ ∃ c, c < 3 ∧ d_co (z_dr M d) = nI c) ∧ d_sh (z_dr M d) ≤ 1 ∧ d_go (z_dr M d) ≤ N := hw.2.2.2.1 d h
theorem wf_hd (hw : wf M N) {c : Nat} (hc : c < 3) : z_hd M c ≤ 9 := hw.2.2.2.2.1 c hc
theorem wf_at (hw : wf M N) : z_at M < z_nR M ∨ (z_nR M = 0 ∧ z_at M = 0) := hw.2.2.2.2.2.1
theorem wf_st (hw : wf M N) : z_st M ≤ N := hw.2.2.2.2.2.2.1
theorem wf_la (hw : wf M N) : z_la M ≤ N := hw.2.2.2.2.2.2.2.1
theorem wf_us (hw : wf M N) : z_us M ≤ N := hw.2.2.2.2.2.2.2.2.1
theorem wf_go (hw : wf M N) : z_go M ≤ N := hw.2.2.2.2.2.2.2.2.2
theorem d_beh_lt (hw : wf M N) {d : Nat} (h : d < z_nD M) (r : Nat) : d_beh (z_dr M d) r < z_nR M := by
  obtain ⟨h1, h2, -⟩ := wf_d hw h
  unfold d_beh; split <;> omega
end G2
theorem nI_half {k : Nat} (h : k < 2 ^ 31) : nI k / (2 : Int32) = nI (k / 2) := pk_div h (by decide) (by decide)
theorem nI_par {k : Nat} (h : k < 2 ^ 31) : nI k - nI k / (2 : Int32) * (2 : Int32) = nI (k % 2) := pk_rem h (by decide) (by decide)
theorem nI_is {a b : Nat} (ha : a < 2 ^ 31) (hb : b < 2 ^ 31) : nI a = nI b ↔ a = b := nI_eq ha hb
section MX
variable {G : Gt} {q : Nat} {A : Nat → Nat} {s : MS} {h0 : Hp} {M : Mz} {N : Nat} {K : Int32 → Hp → Prop}
theorem mx_oilOf (hd : Dis q A) (hg : gRep (s.1 0) M) (hw : wf M N) {r : Nat} (hr : r < z_nR M) (k : K (nI (z_oil M r)) (ovl q A s h0)) : f_X2_oilOf G (ovl q A s h0) (some q) (nI r) K := by
  have := wf_nR hw
  unfold f_X2_oilOf
  rw [gR_m0, gx_room, aI_m hd 0 (by decide), vp_n (by omega), nI_clamp (by omega), gr_oil hg hr]
  exact ⟨by show 10 + 4 * r < 146; omega, k⟩
theorem mx_of (hd : Dis q A) (hg : gRep (s.1 0) M) (hw : wf M N) {d w : Nat} (hr : d < z_nD M) (hw2 : w < 6) (k : K (s.1 0 (50 + 6 * d + w)) (ovl q A s h0)) : f_X2_of G (ovl q A s h0) (some q) (nI d) (nI w) K := by
  have := wf_nD hw
  unfold f_X2_of
  rw [gR_m0, gx_door, aI_m hd 0 (by decide), vp_n (by omega), nI_clamp (by omega)]
  exact ⟨by show 50 + 6 * d + w < 146; omega, k⟩
theorem mx_lo (hd : Dis q A) (hg : gRep (s.1 0) M) (hw : wf M N) {d : Nat} (hr : d < z_nD M) (k : K (nI (d_lo (z_dr M d))) (ovl q A s h0)) : f_X2_of G (ovl q A s h0) (some q) (nI d) 0 K :=
  mx_of (w := 0) hd hg hw hr (by decide) (by show K (s.1 0 (50 + 6 * d)) _; rw [(gr_d hg hr).1]; exact k)
theorem mx_hi (hd : Dis q A) (hg : gRep (s.1 0) M) (hw : wf M N) {d : Nat} (hr : d < z_nD M) (k : K (nI (d_hi (z_dr M d))) (ovl q A s h0)) : f_X2_of G (ovl q A s h0) (some q) (nI d) 1 K :=
  mx_of (w := 1) hd hg hw hr (by decide) (by rw [(gr_d hg hr).2.1]; exact k)
theorem mx_kd (hd : Dis q A) (hg : gRep (s.1 0) M) (hw : wf M N) {d : Nat} (hr : d < z_nD M) (k : K (nI (d_kd (z_dr M d))) (ovl q A s h0)) : f_X2_of G (ovl q A s h0) (some q) (nI d) 2 K :=
  mx_of (w := 2) hd hg hw hr (by decide) (by rw [(gr_d hg hr).2.2.1]; exact k)
theorem mx_co (hd : Dis q A) (hg : gRep (s.1 0) M) (hw : wf M N) {d : Nat} (hr : d < z_nD M) (k : K (d_co (z_dr M d)) (ovl q A s h0)) : f_X2_of G (ovl q A s h0) (some q) (nI d) 3 K :=
  mx_of (w := 3) hd hg hw hr (by decide) (by rw [(gr_d hg hr).2.2.2.1]; exact k)
theorem mx_sh (hd : Dis q A) (hg : gRep (s.1 0) M) (hw : wf M N) {d : Nat} (hr : d < z_nD M) (k : K (nI (d_sh (z_dr M d))) (ovl q A s h0)) : f_X2_of G (ovl q A s h0) (some q) (nI d) 4 K :=
  mx_of (w := 4) hd hg hw hr (by decide) (by rw [(gr_d hg hr).2.2.2.2.1]; exact k)
theorem mx_go (hd : Dis q A) (hg : gRep (s.1 0) M) (hw : wf M N) {d : Nat} (hr : d < z_nD M) (k : K (nI (d_go (z_dr M d))) (ovl q A s h0)) : f_X2_of G (ovl q A s h0) (some q) (nI d) 5 K :=
  mx_of (w := 5) hd hg hw hr (by decide) (by rw [(gr_d hg hr).2.2.2.2.2]; exact k)
theorem mx_isRoom (hd : Dis q A) (hg : gRep (s.1 0) M) (hw : wf M N) {x : Int32} (k : K (bI (ix x (z_nR M))) (ovl q A s h0)) : f_X2_isRoom G (ovl q A s h0) (some q) x K := by
  have := wf_nR hw
  unfold f_X2_isRoom
  rw [gR_m0, aI_m hd 0 (by decide), show (0 : Int32) = nI 0 from rfl, vp_n (by omega), nI_clamp (by omega), gr_nR hg]
  exact ⟨by show 0 < 146; decide, Mz_in (by omega) ⟨bI_nar, k⟩⟩
theorem mx_isDoor (hd : Dis q A) (hg : gRep (s.1 0) M) (hw : wf M N) {x : Int32} (k : K (bI (ix x (z_nD M))) (ovl q A s h0)) : f_X2_isDoor G (ovl q A s h0) (some q) x K := by
  have := wf_nD hw
  unfold f_X2_isDoor
  rw [gR_m0, aI_m hd 0 (by decide), show (1 : Int32) = nI 1 from rfl, vp_n (by omega), nI_clamp (by omega), gr_nD hg]
  exact ⟨by show 1 < 146; decide, Mz_in (by omega) ⟨bI_nar, k⟩⟩
theorem mx_isColour {h : Hp} {x : Int32} (k : K (bI (ix x 3)) h) : f_X2_isColour G h x K := by
  unfold f_X2_isColour
  exact Mz_in (n := 3) (by decide) ⟨bI_nar, k⟩
theorem mx_areRooms (hd : Dis q A) (hg : gRep (s.1 0) M) (hw : wf M N) {x y : Int32} (k : K (bI (ix x (z_nR M) ∧ ix y (z_nR M))) (ovl q A s h0)) : f_X2_areRooms G (ovl q A s h0) (some q) x y K := by
  unfold f_X2_areRooms
  rw [rv_m]
  refine mx_isRoom hd hg hw (bI_z (fun h1 => ?_) (fun h1 => ?_))
  · rw [bI_0 (fun z => h1 z.1)] at k; exact k
  · rw [rv_m]
    refine mx_isRoom hd hg hw (bI_z (fun h2 => ?_) (fun h2 => ?_))
    · rw [bI_0 (fun z => h2 z.2)] at k; exact k
    · rw [bI_1 ⟨h1, h2⟩] at k; exact k
theorem mx_isAt (hd : Dis q A) (hg : gRep (s.1 0) M) (hw : wf M N) {r d : Nat} (hr : r < 2 ^ 30) (hdd : d < z_nD M) (k : K (bI (d_isAt (z_dr M d) r)) (ovl q A s h0)) : f_X2_isAt G (ovl q A s h0) (some q) (nI r) (nI d) K := by
  have h1 := wf_nR hw
  obtain ⟨h2, h3, -⟩ := wf_d hw hdd
  unfold f_X2_isAt
  rw [rv_m]
  refine mx_lo hd hg hw hdd ⟨fun e => ?_, fun e => ?_⟩
  · rw [nI_is (by omega) (by omega)] at e
    rw [bI_1 (Or.inl e)] at k; exact k
  · rw [nI_is (by omega) (by omega)] at e
    rw [rv_m]
    refine mx_hi hd hg hw hdd ⟨fun e2 => ?_, fun e2 => ?_⟩
    · rw [nI_is (by omega) (by omega)] at e2
      rw [bI_0 (by rintro (z | z); exact e z; exact e2 z)] at k; exact k
    · rw [nI_is (by omega) (by omega)] at e2
      rw [bI_1 (Or.inr e2)] at k; exact k
theorem mx_behind (hd : Dis q A) (hg : gRep (s.1 0) M) (hw : wf M N) {r d : Nat} (hr : r < 2 ^ 30) (hdd : d < z_nD M) (k : K (nI (d_beh (z_dr M d) r)) (ovl q A s h0)) : f_X2_behind G (ovl q A s h0) (some q) (nI r) (nI d) K := by
  have h1 := wf_nR hw
  obtain ⟨h2, h3, -⟩ := wf_d hw hdd
  unfold f_X2_behind
  rw [rv_m]
  refine mx_lo hd hg hw hdd ⟨fun e => ?_, fun e => ?_⟩
  · rw [nI_is (by omega) (by omega)] at e
    rw [rv_m]
    refine mx_lo hd hg hw hdd ?_
    unfold d_beh at k; rw [if_neg e] at k; exact k
  · rw [nI_is (by omega) (by omega)] at e
    rw [rv_m]
    refine mx_hi hd hg hw hdd ?_
    unfold d_beh at k; rw [if_pos e] at k; exact k
theorem mx_needs (hd : Dis q A) (hg : gRep (s.1 0) M) (hw : wf M N) {r : Nat} (hr : r < z_nR M) (k : K (nI (z_need M r)) (ovl q A s h0)) : f_X2_needs G (ovl q A s h0) (some q) (nI r) K := by
  have h1 := wf_oil hw hr
  unfold f_X2_needs
  rw [rv_m]
  refine mx_oilOf hd hg hw hr ⟨fun e => ?_, fun e => ?_⟩
  · rw [show (0 : Int32) = nI 0 from rfl, nI_leI (by omega) (by omega)] at e
    unfold z_need at k; rw [if_neg (by omega)] at k; exact k
  · rw [show (0 : Int32) = nI 0 from rfl, nI_leI (by omega) (by omega)] at e
    unfold z_need at k; rw [if_pos (by omega)] at k; exact k
theorem mx_isFor (hd : Dis q A) (hg : gRep (s.1 0) M) (hw : wf M N) {d last : Nat} (hdd : d < z_nD M) (hl : last < 2 ^ 31) (k : K (bI (d_for (z_dr M d) last)) (ovl q A s h0)) : f_X2_isFor G (ovl q A s h0) (some q) (nI d) (nI last) K := by
  obtain ⟨-, -, h3, -⟩ := wf_d hw hdd
  unfold f_X2_isFor
  rw [nI_par hl, rv_m]
  have h2 : last % 2 < 2 := Nat.mod_lt _ (by decide)
  refine mx_kd hd hg hw hdd ⟨fun e => ?_, fun e => ?_⟩
  · rw [show (0 : Int32) = nI 0 from rfl, nI_is (by omega) (by omega)] at e
    rw [bI_1 (Or.inl e)] at k; exact k
  · rw [show (0 : Int32) = nI 0 from rfl, nI_is (by omega) (by omega)] at e
    rw [rv_m]
    refine mx_kd hd hg hw hdd ?_
    rw [show (1 : Int32) = nI 1 from rfl, show (0 : Int32) = nI 0 from rfl, nI_is (by omega) (by omega), nI_is (by omega) (by omega), nI_is (by omega) (by omega)]
    refine ⟨fun e2 => ⟨fun e3 => ?_, fun e3 => ?_⟩, fun e2 => ⟨fun e3 => ?_, fun e3 => ?_⟩⟩
    · rw [bI_0 (by rintro (z | z); exact e z; rw [if_neg e2] at z; exact e3 z)] at k; exact k
    · rw [bI_1 (Or.inr (by rw [if_neg e2]; exact e3))] at k; exact k
    · rw [bI_0 (by rintro (z | z); exact e z; rw [if_pos e2] at z; exact e3 z)] at k; exact k
    · rw [bI_1 (Or.inr (by rw [if_pos e2]; exact e3))] at k; exact k
theorem mx_isOpenTo (hd : Dis q A) (hg : gRep (s.1 0) M) (hw : wf M N) {u d : Nat} (hu : u < 2 * z_nR M) (hdd : d < z_nD M) (k : K (bI (z_open M u d)) (ovl q A s h0)) : f_X2_isOpenTo G (ovl q A s h0) (some q) (nI u) (nI d) K := by
  have h1 := wf_nR hw
  obtain ⟨-, -, -, -, h3, -⟩ := wf_d hw hdd
  have h4 := z_need_pos M (u / 2)
  have h5 : u % 2 < 2 := Nat.mod_lt _ (by decide)
  unfold f_X2_isOpenTo
  rw [nI_par (by omega), nI_half (by omega), rv_m]
  refine mx_isAt hd hg hw (by omega) hdd (bI_z (fun e => ?_) (fun e => ?_))
  · rw [bI_0 (fun z => e z.1)] at k; exact k
  · rw [rv_m]
    refine mx_sh hd hg hw hdd ⟨fun e2 => ?_, fun e2 => ?_⟩
    · rw [show (0 : Int32) = nI 0 from rfl, nI_is (by omega) (by omega)] at e2
      rw [bI_0 (fun z => e2 z.2.1)] at k; exact k
    · rw [show (0 : Int32) = nI 0 from rfl, nI_is (by omega) (by omega)] at e2
      rw [rv_m]
      refine mx_needs hd hg hw (by omega) ?_
      rw [rv_m, nI_add]
      refine mx_isFor hd hg hw hdd (by omega) (bI_z (fun e3 => ?_) (fun e3 => ?_))
      · rw [bI_0 (fun z => e3 z.2.2)] at k; exact k
      · rw [bI_1 ⟨e, e2, e3⟩] at k; exact k
theorem mx_comesBy (hd : Dis q A) (hg : gRep (s.1 0) M) (hw : wf M N) {u d : Nat} (hu : u < 2 * z_nR M) (hdd : d < z_nD M) (k : K (nI (z_to M u d)) (ovl q A s h0)) : f_X2_comesBy G (ovl q A s h0) (some q) (nI u) (nI d) K := by
  have h1 := wf_nR hw
  have h4 := z_need_pos M (u / 2)
  unfold f_X2_comesBy
  rw [nI_half (by omega), rv_m]
  refine mx_behind hd hg hw (by omega) hdd ?_
  rw [rv_m]
  refine mx_needs hd hg hw (by omega) ?_
  rw [nI_add, nI_par (by omega), show (2 : Int32) = nI 2 from rfl, pk_mul, nI_add]
  exact k
theorem mx_least {h : Hp} {a b : Nat} (ha : a < 2 ^ 31) (hb : b < 2 ^ 31) (k : K (nI (min a b)) h) : f_X2_least G h (nI a) (nI b) K := by
  unfold f_X2_least
  rw [nI_leI (by omega) (by omega)]
  refine ⟨fun e => ?_, fun e => ?_⟩
  · rw [Nat.min_eq_right e] at k; exact k
  · rw [Nat.min_eq_left (by omega)] at k; exact k
theorem mx_most {h : Hp} {a b : Nat} (ha : a < 2 ^ 31) (hb : b < 2 ^ 31) (k : K (nI (max a b)) h) : f_X2_most G h (nI a) (nI b) K := by
  unfold f_X2_most
  rw [nI_leI (by omega) (by omega)]
  refine ⟨fun e => ?_, fun e => ?_⟩
  · rw [Nat.max_eq_right e] at k; exact k
  · rw [Nat.max_eq_left (by omega)] at k; exact k
end MX
