/-! THE MODEL'S LINES -/
set_option maxRecDepth 100000
def txN (n : Nat) : List Nat := if 9 < n then [48 + n / 10, 48 + n % 10] else [48 + n % 10]
def kys (M : Mz) (r : Nat) : Nat → List Nat
  | 0 => []
  | c + 1 => kys M r c ++ List.replicate (z_key M r c) (97 + c)
def txRoom (M : Mz) (r : Nat) : List Nat := txN r ++ [42] ++ txN (z_oil M r) ++ kys M r 3 ++ (if z_at M = r then [64] else [])
def txDoor (dr : Dr) (d : Nat) : List Nat := txN d ++ [58] ++ txN (d_lo dr) ++ [if d_kd dr = 0 then 45 else if d_kd dr = 1 then 111 else 101] ++ txN (d_hi dr) ++ (if d_sh dr = 0 then [] else [33] ++ [97 + nN (d_co dr)])
def oTell (O : Ou) (x : Int32) : Int32 × Ou := if ix x (z_nR (o_c O)) then (nI (txRoom (o_c O) (nN x)).length, o_ln O (txRoom (o_c O) (nN x))) else (-1011, O)
def oTellD (O : Ou) (x : Int32) : Int32 × Ou := if ix x (z_nD (o_c O)) then (nI (txDoor (z_dr (o_c O) (nN x)) (nN x)).length, o_ln O (txDoor (z_dr (o_c O) (nN x)) (nN x))) else (-1011, O)
theorem txN_len (n : Nat) : (txN n).length ≤ 2 := by unfold txN; split; exact Nat.le_refl 2; exact Nat.le_succ 1
theorem kys_len {M : Mz} {N r : Nat} (hw : wf M N) (hr : r < z_nR M) : ∀ c, c ≤ 3 → (kys M r c).length ≤ 9 * c := by
  intro c
  induction c with
  | zero => intro _; exact Nat.le_refl _
  | succ c ih =>
    intro hc
    have := ih (by omega)
    have := wf_key hw hr (c := c) (by omega)
    show (kys M r c ++ List.replicate (z_key M r c) (97 + c)).length ≤ _
    rw [List.length_append, List.length_replicate]; omega
section SP
variable {G : Gt} {q : Nat} {A : Nat → Nat} {s : MS} {h0 : Hp} {N : Nat} {M : Mz} {O : Ou}
theorem mx_writes {c : Nat} {l : List Nat} {K : Hp → Prop} (hd : Dis q A) (ho : oRep s (o_ln O l)) (hl : l.length < 60) (k : ∀ s', oRep s' (o_ln O (l ++ [c])) → Fr s s' → K (ovl q A s' h0)) : f_X2_writes G (ovl q A s h0) (some q) (nI c) K := by
  obtain ⟨k0, k1, k2, k3, k4, k5, k6, k7, k8, k9, k10⟩ := ho
  have k9 : s.2 12 = nI l.length := k9
  unfold f_X2_writes
  rw [gR_m11, gI_m12, k9, sI_m hd 5 (by decide), vp_n (by omega), nI_clamp (by omega)]
  refine ⟨by show _ < 60; omega, ?_⟩
  rw [gI_m12, pF_m12]
  refine k _ ⟨k0, k1, k2, k3, k4, k5, k6, k7, k8, ?_, fun i y hi => ?_⟩ (Fr_c (Fr_a (Fr_r s) (by decide) (by decide)) (by decide) (by decide))
  · rw [cU_s]; show s.2 12 + 1 = nI (l ++ [c]).length
    rw [k9, nI_1, List.length_append]; rfl
  · show (aU s 5 (upd (s.1 5) l.length (nI c))).1 5 i = nI y
    rw [aU_s]
    have hi : (l ++ [c])[i]? = some y := hi
    by_cases e3 : i < l.length
    · rw [List.getElem?_append_left e3] at hi
      rw [pk_un (by omega)]; exact k10 i y hi
    · rw [List.getElem?_append_right (by omega)] at hi
      have e4 : i - l.length = 0 := by
        apply Decidable.byContradiction
        intro z
        rw [List.getElem?_eq_none (by simp; omega)] at hi
        cases hi
      rw [e4] at hi
      cases hi
      rw [show i = l.length by omega, pk_us]
theorem nI_rem10 {n : Nat} (h : n < 2 ^ 31) : nI n - nI n / (10 : Int32) * (10 : Int32) = nI (n % 10) := pk_rem h (by decide) (by decide)
theorem nI_div10 {n : Nat} (h : n < 2 ^ 31) : nI n / (10 : Int32) = nI (n / 10) := pk_div h (by decide) (by decide)
theorem mx_wNum {n : Nat} {l : List Nat} {K : Hp → Prop} (hd : Dis q A) (ho : oRep s (o_ln O l)) (hn : n < 100) (hl : l.length < 58) (k : ∀ s', oRep s' (o_ln O (l ++ txN n)) → Fr s s' → K (ovl q A s' h0)) : f_X2_writesNumber G (ovl q A s h0) (some q) (nI n) K := by
  unfold f_X2_writesNumber
  unfold txN at k
  rw [nI_rem10 (by omega), nI_div10 (by omega), show (48 : Int32) = nI 48 from rfl, nI_add, nI_add, show (9 : Int32) = nI 9 from rfl, nI_leI (by omega) (by omega)]
  refine ⟨fun e => ?_, fun e => ?_⟩
  · rw [if_neg (by omega)] at k
    rw [rv_m]
    exact mx_writes hd ho (by omega) k
  · rw [if_pos (by omega)] at k
    rw [rv_m]
    refine mx_writes hd ho (by omega) (fun s' h1 h2 => ?_)
    rw [rv_m]
    refine mx_writes hd h1 (by rw [List.length_append]; show _ + 1 < 60; omega) (fun s2 h3 h4 => ?_)
    rw [List.append_assoc] at h3
    exact k s2 h3 (Fr_t h2 h4)
theorem oRep_ln0 (ho : oRep s O) : oRep (cU s 12 0) (o_ln O []) := by
  obtain ⟨k0, k1, k2, k3, k4, k5, k6, k7, k8, k9, k10⟩ := ho
  exact ⟨k0, k1, k2, k3, k4, k5, k6, k7, k8, rfl, fun i y hi => by cases hi⟩
theorem mx_tell {x : Int32} {K : Int32 → Hp → Prop} (hG : Base G) (hd : Dis q A) (ho : oRep s O) (hw : wfO O N) (k : ∀ s', oRep s' (oTell O x).2 → Fr s s' → K (oTell O x).1 (ovl q A s' h0)) : MM G Y_X2_tell cX2_tell 4 0 0 [.ref q, .int x] (ovl q A s h0) (kI K) xN := by
  have hg := ho.1
  have hR := wf_nR hw.1
  refine b_X2_tell hG (fun E => s_X2_tell_0 hG (Nat.le_refl _) (Nat.le_refl _) ?_)
  unfold g_X2_tell_0
  rw [rv_m]
  refine mx_isRoom hd hg hw.1 (bI_y (fun c => ?_) (fun c => ?_))
  rotate_left
  · rw [oTell, if_neg c] at k; exact k s ho (Fr_r s)
  rw [oTell, if_pos c] at k
  obtain ⟨r, hr, rfl⟩ := ix_n c
  rw [nN_nI (by omega)] at k
  have k : ∀ s', oRep s' (o_ln O (txRoom (o_c O) r)) → Fr s s' → K (nI (txRoom (o_c O) r).length) (ovl q A s' h0) := k
  have wo := wf_oil hw.1 hr
  have t1 := txN_len r
  have t2 := txN_len (z_oil (o_c O) r)
  rw [pF_m12, rv_m]
  refine mx_wNum hd (oRep_ln0 ho) (by omega) (by decide) (fun s1 h1 f1 => ?_)
  rw [List.nil_append] at h1
  rw [rv_m, show (42 : Int32) = nI 42 from rfl]
  refine mx_writes hd h1 (by omega) (fun s2 h2 f2 => ?_)
  rw [rv_m]
  refine mx_oilOf (M := o_c O) hd h2.1 hw.1 hr ?_
  rw [rv_m]
  refine mx_wNum hd h2 (by show z_oil (o_c O) r < 100; omega) (by rw [List.length_append]; show _ + 1 < 58; omega) (fun s3 h3 f3 => ?_)
  have f0 : Fr s s3 := Fr_t (Fr_t (Fr_t (Fr_c (Fr_r s) (by decide) (by decide)) f1) f2) f3
  have hB : (txN r ++ [42] ++ txN (z_oil (o_c O) r)).length ≤ 5 := by rw [List.length_append, List.length_append]; show _ + 1 + _ ≤ 5; omega
  have cols : ∀ c, c ≤ 3 → ∀ s', oRep s' (o_ln O (txN r ++ [42] ++ txN (z_oil (o_c O) r) ++ kys (o_c O) r c)) → Fr s s' → V G E Y_X2_tell cX2_tell 4 (QM G E (kI K) xN) (ovl q A s' h0) 0 0 39 [(0, .ref q), (1, .int (nI r)), (2, .int (nI c))] [] := by
    refine up_to (fun s' h' f' => ?_) (fun c hc ih s' h' f' => ?_)
    · refine s_X2_tell_39 hG (Nat.le_refl _) (Nat.le_refl _) ⟨fun _ => ?_, fun e => absurd (nI_le (Nat.le_refl 3) (by decide)) e⟩
      have hk := kys_len hw.1 hr 3 (by decide)
      have hg' : gRep (s'.1 0) (o_c O) := h'.1
      have hat : z_at (o_c O) < z_nR (o_c O) := by have := wf_at hw.1; omega
      rw [gR_m0, ga2 hd, gr_at hg' (by omega), nI_is (by omega) (by omega)]
      unfold txRoom at k
      refine ⟨fun e => ?_, fun e => ?_⟩
      · rw [if_neg e, List.append_nil] at k
        have k9 : s'.2 12 = nI (txN r ++ [42] ++ txN (z_oil (o_c O) r) ++ kys (o_c O) r 3).length := h'.2.2.2.2.2.2.2.2.2.1
        rw [gI_m12, k9]
        exact k s' h' f'
      · rw [if_pos e] at k
        rw [rv_m, show (64 : Int32) = nI 64 from rfl]
        refine mx_writes hd h' (by rw [List.length_append]; omega) (fun s4 h4 f4 => ?_)
        have k9 : s4.2 12 = nI (txN r ++ [42] ++ txN (z_oil (o_c O) r) ++ kys (o_c O) r 3 ++ [64]).length := h4.2.2.2.2.2.2.2.2.2.1
        rw [gI_m12, k9]
        exact k s4 h4 (Fr_t f' f4)
    · refine s_X2_tell_39 hG (Nat.le_refl _) (Nat.le_refl _) ⟨fun e => absurd e (nI_ge hc (by decide)), fun _ => ?_⟩
      have wk := wf_key hw.1 hr hc
      have hk := kys_len hw.1 hr c (by omega)
      have inner : ∀ j, j ≤ z_key (o_c O) r c → ∀ s', oRep s' (o_ln O (txN r ++ [42] ++ txN (z_oil (o_c O) r) ++ kys (o_c O) r c ++ List.replicate j (97 + c))) → Fr s s' → V G E Y_X2_tell cX2_tell 4 (QM G E (kI K) xN) (ovl q A s' h0) 0 0 46 [(0, .ref q), (1, .int (nI r)), (2, .int (nI c)), (3, .int (nI j))] [] := by
        refine up_to (fun s' h' f' => ?_) (fun j hj ih2 s' h' f' => ?_)
        · have hg' : gRep (s'.1 0) (o_c O) := h'.1
          refine s_X2_tell_46 hG (Nat.le_refl _) (Nat.le_refl _) ?_
          unfold g_X2_tell_46
          rw [gR_m0, gx_key, ga hd (by omega), gr_key hg' hr hc, nI_1]
          refine ⟨fun _ => ih s' ?_ f', fun e => absurd (nI_le (Nat.le_refl _) (by omega)) e⟩
          rw [List.append_assoc (txN r ++ [42] ++ txN (z_oil (o_c O) r))] at h'
          exact h'
        · have hg' : gRep (s'.1 0) (o_c O) := h'.1
          refine s_X2_tell_46 hG (Nat.le_refl _) (Nat.le_refl _) ?_
          unfold g_X2_tell_46
          rw [gR_m0, gx_key, ga hd (by omega), gr_key hg' hr hc, nI_1]
          refine ⟨fun e => absurd e (nI_ge hj (by omega)), fun _ => ?_⟩
          rw [rv_m, show (97 : Int32) = nI 97 from rfl, nI_add, nI_1]
          refine mx_writes hd h' (by rw [List.length_append, List.length_append, List.length_replicate]; omega) (fun s4 h4 f4 => ?_)
          refine ih2 s4 ?_ (Fr_t f' f4)
          rw [List.replicate_succ', ← List.append_assoc]
          exact h4
      refine inner 0 (Nat.zero_le _) s' ?_ f'
      rw [List.replicate_zero, List.append_nil]; exact h'
  refine cols 0 (Nat.zero_le _) s3 ?_ f0
  show oRep s3 (o_ln O (txN r ++ [42] ++ txN (z_oil (o_c O) r) ++ []))
  rw [List.append_nil]; exact h3
theorem mx_tellDoor {x : Int32} {K : Int32 → Hp → Prop} (hd : Dis q A) (ho : oRep s O) (hw : wfO O N) (k : ∀ s', oRep s' (oTellD O x).2 → Fr s s' → K (oTellD O x).1 (ovl q A s' h0)) : f_X2_tellDoor G (ovl q A s h0) (some q) x K := by
  have hg := ho.1
  have hR := wf_nR hw.1
  have hD := wf_nD hw.1
  unfold f_X2_tellDoor
  rw [rv_m]
  refine mx_isDoor hd hg hw.1 (bI_y (fun c => ?_) (fun c => ?_))
  rotate_left
  · rw [oTellD, if_neg c] at k; exact k s ho (Fr_r s)
  rw [oTellD, if_pos c] at k
  obtain ⟨d, hdd, rfl⟩ := ix_n c
  rw [nN_nI (by omega)] at k
  have k : ∀ s', oRep s' (o_ln O (txDoor (z_dr (o_c O) d) d)) → Fr s s' → K (nI (txDoor (z_dr (o_c O) d) d).length) (ovl q A s' h0) := k
  obtain ⟨d1, d2, d3, d4, d5, d6⟩ := wf_d hw.1 hdd
  have t1 := txN_len d
  have t2 := txN_len (d_lo (z_dr (o_c O) d))
  have t3 := txN_len (d_hi (z_dr (o_c O) d))
  rw [pF_m12, rv_m]
  refine mx_wNum hd (oRep_ln0 ho) (by omega) (by decide) (fun s1 h1 f1 => ?_)
  rw [List.nil_append] at h1
  rw [rv_m, show (58 : Int32) = nI 58 from rfl]
  refine mx_writes hd h1 (by omega) (fun s2 h2 f2 => ?_)
  rw [rv_m]
  refine mx_lo (M := o_c O) hd h2.1 hw.1 hdd ?_
  rw [rv_m]
  refine mx_wNum hd h2 (by show d_lo (z_dr (o_c O) d) < 100; omega) (by rw [List.length_append]; show _ + 1 < 58; omega) (fun s3 h3 f3 => ?_)
  have f0 : Fr s s3 := Fr_t (Fr_t (Fr_t (Fr_c (Fr_r s) (by decide) (by decide)) f1) f2) f3
  have hB : (txN d ++ [58] ++ txN (d_lo (z_dr (o_c O) d))).length ≤ 5 := by rw [List.length_append, List.length_append]; show _ + 1 + _ ≤ 5; omega
  -- the rest, by the sign of the kind
  have tail : ∀ cc, cc = (if d_kd (z_dr (o_c O) d) = 0 then 45 else if d_kd (z_dr (o_c O) d) = 1 then 111 else 101) → f_X2_writes G (ovl q A s3 h0) (some q) (nI cc) (fun h42 =>
      rv h42 (some q) 2 (f_X2_of G h42 (some q) (nI d) (1 : Int32) (fun i47 h46 =>
      rv h46 (some q) 2 (f_X2_writesNumber G h46 (some q) i47 (fun h51 =>
      rv h51 (some q) 2 (f_X2_of G h51 (some q) (nI d) (4 : Int32) (fun i56 h55 =>
      ((¬ (i56 = 0) → rv h55 (some q) 2 (f_X2_writes G h55 (some q) (33 : Int32) (fun h61 =>
      rv h61 (some q) 2 (f_X2_of G h61 (some q) (nI d) (3 : Int32) (fun i66 h65 =>
      rv h65 (some q) 2 (f_X2_writes G h65 (some q) ((97 : Int32) + i66) (fun h70 =>
      gI h70 (some q) 2 12 fun i71 =>
      K i71 h70))))))) ∧
      (i56 = 0 → gI h55 (some q) 2 12 fun i76 =>
      K i76 h55))))))))) := by
    intro cc hcc
    unfold txDoor at k
    rw [← hcc] at k
    refine mx_writes hd h3 (by omega) (fun s4 h4 f4 => ?_)
    rw [rv_m]
    refine mx_hi (M := o_c O) hd h4.1 hw.1 hdd ?_
    rw [rv_m]
    refine mx_wNum hd h4 (by show d_hi (z_dr (o_c O) d) < 100; omega) (by rw [List.length_append]; show _ + 1 < 58; omega) (fun s5 h5 f5 => ?_)
    have f6 := Fr_t f0 (Fr_t f4 f5)
    rw [rv_m]
    refine mx_sh (M := o_c O) hd h5.1 hw.1 hdd ?_
    rw [show (0 : Int32) = nI 0 from rfl, nI_is (by show d_sh (z_dr (o_c O) d) < _; omega) (by omega)]
    refine ⟨fun e => ?_, fun e => ?_⟩
    · rw [if_neg e] at k
      have hL : (txN d ++ [58] ++ txN (d_lo (z_dr (o_c O) d)) ++ [cc] ++ txN (d_hi (z_dr (o_c O) d))).length ≤ 8 := by
        rw [List.length_append, List.length_append (bs := [cc])]; show _ + 1 + _ ≤ 8; omega
      rw [rv_m, show (33 : Int32) = nI 33 from rfl]
      refine mx_writes hd h5 (by omega) (fun s6 h6 f7 => ?_)
      rw [rv_m]
      refine mx_co (M := o_c O) hd h6.1 hw.1 hdd ?_
      obtain ⟨co, hc, hco⟩ : ∃ c, c < 3 ∧ d_co (z_dr (o_c O) d) = nI c := by
        rcases d4 with z | z
        · exact absurd z.2 e
        · exact z
      rw [hco, nN_nI (by omega)] at k
      rw [hco, rv_m, show (97 : Int32) = nI 97 from rfl, nI_add]
      refine mx_writes hd h6 (by rw [List.length_append]; show _ + 1 < 60; omega) (fun s7 h7 f8 => ?_)
      rw [List.append_assoc (txN d ++ [58] ++ txN (d_lo (z_dr (o_c O) d)) ++ [cc] ++ txN (d_hi (z_dr (o_c O) d)))] at h7
      have k9 := h7.2.2.2.2.2.2.2.2.2.1
      rw [gI_m12, k9]
      exact k s7 h7 (Fr_t f6 (Fr_t f7 f8))
    · rw [if_pos e, List.append_nil] at k
      have k9 := h5.2.2.2.2.2.2.2.2.2.1
      rw [gI_m12, k9]
      exact k s5 h5 f6
  rw [rv_m]
  refine mx_kd (M := o_c O) hd h3.1 hw.1 hdd ?_
  rw [show (0 : Int32) = nI 0 from rfl, nI_is (by show d_kd (z_dr (o_c O) d) < _; omega) (by omega)]
  refine ⟨fun e => ?_, fun e => ?_⟩
  · rw [rv_m]
    refine mx_kd (M := o_c O) hd h3.1 hw.1 hdd ?_
    rw [show (1 : Int32) = nI 1 from rfl, nI_is (by show d_kd (z_dr (o_c O) d) < _; omega) (by omega)]
    refine ⟨fun e2 => ?_, fun e2 => ?_⟩
    · rw [rv_m]; exact tail 101 (by rw [if_neg e, if_neg e2])
    · rw [rv_m]; exact tail 111 (by rw [if_neg e, if_pos e2])
  · rw [rv_m]; exact tail 45 (by rw [if_pos e])
end SP
