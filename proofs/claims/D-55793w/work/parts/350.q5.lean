/-! THE MODEL'S undo, save, restore, character, reason, append -/
set_option maxRecDepth 100000
def oUndo (O : Ou) : Int32 × Ou := match (o_p O).getLast? with
  | none => (-1015, O)
  | some M => (nI ((o_p O).length - 1), (M, (o_p O).dropLast, O.2.2))
def oSave (O : Ou) : Int32 × Ou := (nI (z_nR (o_c O)), (O.1, O.2.1, some O.1, O.2.2.2))
def oRestore (O : Ou) : Int32 × Ou := match o_s O with
  | none => (-1015, O)
  | some M => (nI (z_nR M), (M, [], O.2.2))
def rChar (O : Ou) (x : Int32) : Int32 := if ix x (o_l O).length then nI ((o_l O).getD (nN x) 0) else -1011
def rReason (O : Ou) (x : Int32) : Int32 := if o_w O = 0 then -1015 else if x = 0 then o_w O else o_d O
def o_tx (O : Ou) (t : List Nat) : Ou := (O.1, O.2.1, O.2.2.1, O.2.2.2.1, t, O.2.2.2.2.2)
def o_ln (O : Ou) (l : List Nat) : Ou := (O.1, O.2.1, O.2.2.1, O.2.2.2.1, O.2.2.2.2.1, l, O.2.2.2.2.2.2)
def oAppend (O : Ou) (x : Int32) : Int32 × Ou := if inn x 32 126 then (if (o_t O).length = 60 then (-1013, O) else (nI ((o_t O).length + 1), o_tx O (o_t O ++ [nN x]))) else (-1012, O)
section SP
variable {G : Gt} {q : Nat} {A : Nat → Nat} {s : MS} {h0 : Hp} {N : Nat} {M : Mz} {O : Ou}
theorem mx_undo {K : Int32 → Hp → Prop} (hG : Base G) (hd : Dis q A) (ho : oRep s O) (hw : wfO O N) (k : ∀ s', oRep s' (oUndo O).2 → Fr s s' → K (oUndo O).1 (ovl q A s' h0)) : f_X2_undo G (ovl q A s h0) 0 0 (some q) K := by
  obtain ⟨k0, k1, k2, k3, k4, k5, k6, k7, k8, k9, k10⟩ := ho
  have hl := hw.2.2.2.1
  unfold f_X2_undo
  rw [gI_m5, k1, show (0 : Int32) = nI 0 from rfl, nI_is (by omega) (by omega)]
  refine ⟨fun e => ?_, fun e => ?_⟩
  rotate_left
  · have e := List.length_eq_zero_iff.mp e
    unfold oUndo at k
    rw [e] at k
    exact k s ⟨k0, k1, k2, k3, k4, k5, k6, k7, k8, k9, k10⟩ (Fr_r s)
  obtain ⟨M, hM⟩ : ∃ M, (o_p O).getLast? = some M := by
    cases h : (o_p O).getLast? with
    | none => exact absurd (by rw [List.getLast?_eq_none_iff.mp h]; rfl) e
    | some M => exact ⟨M, rfl⟩
  have hMi : (o_p O)[(o_p O).length - 1]? = some M := by rw [← List.getLast?_eq_getElem?]; exact hM
  have hMm : M ∈ o_p O := List.mem_of_getElem? hMi
  unfold oUndo at k
  rw [hM] at k
  have k : ∀ s', oRep s' (M, (o_p O).dropLast, O.2.2) → Fr s s' → K (nI ((o_p O).length - 1)) (ovl q A s' h0) := k
  rw [gI_m5, k1, pF_m5, show (1 : Int32) = nI 1 from rfl, pk_sub (by omega), gR_m1, gI_m5, cU_s, gR_m0, show (146 : Int32) = nI 146 from rfl, pk_mul]
  refine dV_0 (mx_copies (a := 1) (b := 0) (w := 0) hG hd (by decide) (by decide) (by decide) (by show _ ≤ 1168; omega) (by decide) (by decide) (by decide) ?_)
  rw [gI_m5]
  show K (nI ((o_p O).length - 1)) _
  refine k _ ⟨?_, by show nI ((o_p O).length - 1) = nI (o_p O).dropLast.length; rw [List.length_dropLast], fun i Mi hi => ?_, ?_, k4, k5, k6, k7, ?_, k9, ?_⟩ ?_
  · rw [cps_1]
    refine gRep_c (hw.2.1 M hMm) (k2 _ _ hMi) (fun j hj => ?_)
    rw [pk_cpy_in (by omega) (by omega), show 146 * ((o_p O).length - 1) + (j - 0) = 146 * ((o_p O).length - 1) + j by omega]; rfl
  · rw [cps_n (by decide)]
    have hi : (o_p O).dropLast[i]? = some Mi := hi
    rw [List.getElem?_dropLast] at hi
    split at hi
    · exact k2 i Mi hi
    · cases hi
  · rw [cps_n (by decide)]; exact k3
  · rw [cps_n (by decide)]; exact k8
  · rw [cps_n (by decide)]; exact k10
  · exact Fr_a (Fr_c (Fr_r s) (by decide) (by decide)) (by decide) (by decide)
theorem mx_save {K : Int32 → Hp → Prop} (hG : Base G) (hd : Dis q A) (ho : oRep s O) (hw : wfO O N) (k : ∀ s', oRep s' (oSave O).2 → Fr s s' → K (oSave O).1 (ovl q A s' h0)) : f_X2_save G (ovl q A s h0) 0 0 (some q) K := by
  obtain ⟨k0, k1, k2, k3, k4, k5, k6, k7, k8, k9, k10⟩ := ho
  unfold f_X2_save
  refine ⟨⟨rfl, rfl⟩, ?_⟩
  rw [pF_m4, gR_m0, gR_m2]
  refine dV_0 (mx_copies (a := 0) (b := 2) (u := 0) (w := 0) hG hd (by decide) (by decide) (by decide) (by decide) (by decide) (by decide) (by decide) ?_)
  rw [gR_m0, ga0 hd, cps_n (by decide)]
  show K (s.1 0 0) _
  rw [gr_nR k0]
  refine k _ ⟨?_, k1, fun i Mi hi => ?_, ?_, k4, k5, k6, k7, ?_, k9, ?_⟩ ?_
  · rw [cps_n (by decide)]; exact k0
  · rw [cps_n (by decide)]; exact k2 i Mi hi
  · refine Or.inr ⟨O.1, rfl, rfl, ?_⟩
    rw [cps_1]
    refine gRep_c hw.1 k0 (fun j hj => ?_)
    rw [pk_cpy_in (by omega) (by omega), show 0 + (j - 0) = j by omega]; rfl
  · rw [cps_n (by decide)]; exact k8
  · rw [cps_n (by decide)]; exact k10
  · exact Fr_a (Fr_c (Fr_r s) (by decide) (by decide)) (by decide) (by decide)
theorem mx_restore {K : Int32 → Hp → Prop} (hG : Base G) (hd : Dis q A) (ho : oRep s O) (hw : wfO O N) (k : ∀ s', oRep s' (oRestore O).2 → Fr s s' → K (oRestore O).1 (ovl q A s' h0)) : f_X2_restore G (ovl q A s h0) 0 0 (some q) K := by
  have ho' := ho
  obtain ⟨k0, k1, k2, k3, k4, k5, k6, k7, k8, k9, k10⟩ := ho
  unfold f_X2_restore
  rw [gI_m4]
  unfold oRestore at k
  rcases k3 with ⟨e, e2⟩ | ⟨M, e, e2, hM⟩
  · rw [e2] at k
    rw [e]
    exact ⟨fun z => absurd rfl z, fun _ => k s ho' (Fr_r s)⟩
  · rw [e2] at k
    rw [e]
    refine ⟨fun _ => ?_, fun z => absurd z (by decide)⟩
    rw [gR_m2, gR_m0]
    refine dV_0 (mx_copies (a := 2) (b := 0) (u := 0) (w := 0) hG hd (by decide) (by decide) (by decide) (by decide) (by decide) (by decide) (by decide) ?_)
    have hF : gRep ((cps s 2 0 0 0 146).1 0) M := by
      rw [cps_1]
      refine gRep_c (hw.2.2.1 M e2) hM (fun j hj => ?_)
      rw [pk_cpy_in (by omega) (by omega), show 0 + (j - 0) = j by omega]
    rw [pF_m5, gR_m0, ga0 hd]
    show K ((cps s 2 0 0 0 146).1 0 0) _
    rw [gr_nR hF]
    refine k _ ⟨hF, rfl, fun i Mi hi => ?_, ?_, k4, k5, k6, k7, ?_, k9, ?_⟩ ?_
    · cases hi
    · refine Or.inr ⟨M, ?_, e2, ?_⟩
      · rw [cU_n (by decide)]; exact e
      · show gRep ((cps s 2 0 0 0 146).1 2) M
        rw [cps_n (by decide)]; exact hM
    · show ∀ i x, _ → (cps s 2 0 0 0 146).1 4 i = nI x
      rw [cps_n (by decide)]; exact k8
    · show ∀ i x, _ → (cps s 2 0 0 0 146).1 5 i = nI x
      rw [cps_n (by decide)]; exact k10
    · exact Fr_c (Fr_a (Fr_r s) (by decide) (by decide)) (by decide) (by decide)
theorem mx_character {x : Int32} {K : Int32 → Hp → Prop} (hd : Dis q A) (ho : oRep s O) (hw : wfO O N) (k : K (rChar O x) (ovl q A s h0)) : f_X2_character G (ovl q A s h0) (some q) x K := by
  obtain ⟨k0, k1, k2, k3, k4, k5, k6, k7, k8, k9, k10⟩ := ho
  have hl : (o_l O).length ≤ 60 := hw.2.2.2.2.2.2.1
  unfold f_X2_character
  rw [gI_m12, k9]
  refine Mz_in (by omega) (bI_z (fun e => ?_) (fun e => ?_))
  · rw [rChar, if_neg e] at k; exact k
  · obtain ⟨i, hi, rfl⟩ := ix_n e
    rw [rChar, if_pos e, nN_nI (by omega)] at k
    rw [gR_m11, aI_m hd 5 (by decide), vp_n (by omega), nI_clamp (by omega)]
    refine ⟨by show i < 60; omega, ?_⟩
    rw [k10 i _ (List.getElem?_eq_getElem hi)]
    rw [List.getD_eq_getElem?_getD, List.getElem?_eq_getElem hi] at k
    exact k
theorem mx_reason {x : Int32} {K : Int32 → Hp → Prop} (ho : oRep s O) (k : K (rReason O x) (ovl q A s h0)) : f_X2_reason G (ovl q A s h0) (some q) x K := by
  obtain ⟨k0, k1, k2, k3, k4, k5, k6, k7, k8, k9, k10⟩ := ho
  unfold f_X2_reason
  rw [gI_m7, k5]
  unfold rReason at k
  refine ⟨fun e => ⟨fun e2 => ?_, fun e2 => ?_⟩, fun e => ?_⟩
  · rw [if_neg e, if_pos e2] at k; rw [gI_m7, k5]; exact k
  · rw [if_neg e, if_neg e2] at k; rw [gI_m8, k6]; exact k
  · rw [if_pos e] at k; exact k
theorem mx_append {x : Int32} {K : Int32 → Hp → Prop} (hd : Dis q A) (ho : oRep s O) (hw : wfO O N) (k : ∀ s', oRep s' (oAppend O x).2 → K (oAppend O x).1 (ovl q A s' h0)) : f_X2_append G (ovl q A s h0) (some q) x K := by
  have ho' := ho
  obtain ⟨k0, k1, k2, k3, k4, k5, k6, k7, k8, k9, k10⟩ := ho
  have hl : (o_t O).length ≤ 60 := hw.2.2.2.2.1
  unfold f_X2_append
  unfold oAppend at k
  refine Mz_inn (lo := 32) (hi := 126) rfl rfl (bI_y (fun e => ?_) (fun e => ?_))
  rotate_left
  · rw [if_neg e] at k; exact k s ho'
  rw [if_pos e] at k
  rw [gI_m10, k7, show (60 : Int32) = nI 60 from rfl, nI_is (by omega) (by omega)]
  refine ⟨fun e2 => ?_, fun e2 => ?_⟩
  rotate_left
  · rw [if_pos e2] at k; exact k s ho'
  rw [if_neg e2] at k
  obtain ⟨n, hn, rfl⟩ := inn_n (x := x) (b := 126) (by have := e.1; omega) e.2
  rw [nN_nI (by omega)] at k
  rw [gR_m9, gI_m10, k7, sI_m hd 4 (by decide), vp_n (by omega), nI_clamp (by omega)]
  refine ⟨by show _ < 60; omega, ?_⟩
  rw [gI_m10, pF_m10, gI_m10, cU_s]
  show K (s.2 10 + 1) _
  rw [k7, nI_1]
  refine k _ ⟨k0, k1, k2, k3, k4, k5, k6, ?_, fun i y hi => ?_, k9, k10⟩
  · rw [cU_s]; show s.2 10 + 1 = nI (o_t O ++ [n]).length
    rw [k7, nI_1, List.length_append]; rfl
  · show (aU s 4 (upd (s.1 4) (o_t O).length (nI n))).1 4 i = nI y
    rw [aU_s]
    have hi : (o_t O ++ [n])[i]? = some y := hi
    by_cases e3 : i < (o_t O).length
    · rw [List.getElem?_append_left e3] at hi
      rw [pk_un (by omega)]; exact k8 i y hi
    · rw [List.getElem?_append_right (by omega)] at hi
      have e4 : i - (o_t O).length = 0 := by
        apply Decidable.byContradiction
        intro z
        rw [List.getElem?_eq_none (by simp; omega)] at hi
        cases hi
      rw [e4] at hi
      cases hi
      rw [show i = (o_t O).length by omega, pk_us]
end SP
