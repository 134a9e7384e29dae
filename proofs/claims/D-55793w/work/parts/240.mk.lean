/-! THE MODEL'S KEEPS -/
set_option maxRecDepth 100000
theorem dV_0 {G : Gt} {Y : Yt} {cz : ByteArray} {nz : Nat} {args : List Value} {h : Hp} {k n : Nat} {K : Hp → Nat → Nat → Prop} {X : Nat → Nat → Hp → Prop} (m : MM G Y cz nz 0 0 args h (kV fun h' => K h' k n) X) : dV G Y cz nz args h k n K X := ⟨0, 0, Nat.zero_le _, Nat.zero_le _, m⟩
theorem dI_0 {G : Gt} {Y : Yt} {cz : ByteArray} {nz : Nat} {args : List Value} {h : Hp} {k n : Nat} {K : Int32 → Hp → Nat → Nat → Prop} {X : Nat → Nat → Hp → Prop} (m : MM G Y cz nz 0 0 args h (kI fun r h' => K r h' k n) X) : dI G Y cz nz args h k n K X := ⟨0, 0, Nat.zero_le _, Nat.zero_le _, m⟩
def pushO (O : Ou) (M : Mz) : Ou := if o_in O = true then O else (o_c O, (if (o_p O).length = 8 then (o_p O).tail else o_p O) ++ [M], O.2.2)
theorem cps_1 {s : MS} {a b u w j : Nat} : (cps s a b u w j).1 b = va_cpy (s.1 a) (s.1 b) u w j := aU_s
theorem cps_n {s : MS} {a b u w j i : Nat} (h : i ≠ b) : (cps s a b u w j).1 i = s.1 i := aU_n h
theorem cps_S1 {s : MS} {u j : Nat} (hu : 0 < u) : aU (cps s 1 1 u 0 j) 1 (upd ((cps s 1 1 u 0 j).1 1) j ((cps s 1 1 u 0 j).1 1 (j + u))) = cps s 1 1 u 0 (j + 1) := by
  refine Prod.ext (funext fun i => ?_) rfl
  by_cases e : i = 1
  · subst e
    rw [aU_s]
    show upd ((aU s 1 _).1 1) j ((aU s 1 _).1 1 (j + u)) = (aU s 1 _).1 1
    rw [aU_s, aU_s]
    funext x
    rw [pk_cpy_out (j := j + u) (by omega)]
    by_cases e2 : x = j
    · subst e2
      rw [pk_us, pk_cpy_in (by omega) (by omega), show u + (x - 0) = x + u by omega]
    · rw [pk_un e2]
      by_cases e3 : x < j
      · rw [pk_cpy_in (by omega) (by omega), pk_cpy_in (by omega) (by omega)]
      · rw [pk_cpy_out (by omega), pk_cpy_out (by omega)]
  · rw [aU_n e]; show (aU s 1 _).1 i = (aU s 1 _).1 i; rw [aU_n e, aU_n e]
theorem oR2_push {s s' : MS} {O : Ou} {M : Mz} {N : Nat} {p : List Mz} {sh a : Nat} (h : oR2 s O) (hw : wfO O N) (hM : wf M N) (hg : gRep (s.1 a) M) (h4 : ∀ i, i ≠ 1 → s'.1 i = s.1 i) (h5 : ∀ i, i ≠ 5 → s'.2 i = s.2 i) (hl : s'.2 5 = nI (p.length + 1)) (hp : ∀ i Mi, p[i]? = some Mi → (o_p O)[i + sh]? = some Mi ∧ ∀ j, j < 146 → s'.1 1 (146 * i + j) = s.1 1 (146 * (i + sh) + j)) (hn : ∀ j, j < 146 → s'.1 1 (146 * p.length + j) = s.1 a j) : oR2 s' (o_c O, p ++ [M], O.2.2) := by
  obtain ⟨k1, k2, k3, k4, k5, k6, k7, k8, k9, k10⟩ := h
  refine ⟨?_, fun i Mi hi => ?_, ?_, ?_, ?_, ?_, ?_, ?_, ?_, ?_⟩
  · rw [hl]; show _ = nI (p ++ [M]).length; rw [List.length_append]; rfl
  · by_cases e : i < p.length
    · have hi2 : p[i]? = some Mi := by rw [← hi, List.getElem?_append_left e]
      obtain ⟨a1, a2⟩ := hp i Mi hi2
      exact gRep_c (hw.2.1 _ (List.mem_of_getElem? a1)) (k2 _ _ a1) a2
    · have hi2 : (p ++ [M])[i]? = some Mi := hi
      rw [List.getElem?_append_right (by omega)] at hi2
      have e3 : i - p.length = 0 := by
        apply Decidable.byContradiction
        intro z
        rw [List.getElem?_eq_none (by simp; omega)] at hi2
        cases hi2
      rw [e3] at hi2
      cases hi2
      have e4 : i = p.length := by omega
      subst e4
      exact gRep_c hM hg hn
  · rw [h5 4 (by decide), h4 2 (by decide)]; exact k3
  · rw [h5 6 (by decide)]; exact k4
  · rw [h5 7 (by decide)]; exact k5
  · rw [h5 8 (by decide)]; exact k6
  · rw [h5 10 (by decide)]; exact k7
  · rw [h4 4 (by decide)]; exact k8
  · rw [h5 12 (by decide)]; exact k9
  · rw [h4 5 (by decide)]; exact k10
section CP
variable {G : Gt} {q : Nat} {A : Nat → Nat} {s : MS} {h0 : Hp}
theorem mx_keeps {O : Ou} {M : Mz} {N a : Nat} {K : Hp → Prop} (hG : Base G) (hd : Dis q A) (ho : oR2 s O) (hw : wfO O N) (hM : wf M N) (hg : gRep (s.1 a) M) (ha : a = 0 ∨ a = 3) (k : ∀ s', (∀ i, i ≠ 1 → s'.1 i = s.1 i) → (∀ i, i ≠ 5 → s'.2 i = s.2 i) → oR2 s' (pushO O M) → K (ovl q A s' h0)) : MM G Y_X2_keeps cX2_keeps 3 0 0 [.ref q, .ref (A a)] (ovl q A s h0) (kV K) xN := by
  have ha9 : a < 9 := by omega
  have ha1 : a ≠ 1 := by omega
  have hsz : msz a = 146 := by rcases ha with e | e <;> subst e <;> rfl
  have hl := hw.2.2.2.1
  refine b_X2_keeps (r_1 := some (A a)) hG (fun E => s_X2_keeps_0 (r_1 := some (A a)) hG (Nat.le_refl _) (Nat.le_refl _) ?_)
  unfold g_X2_keeps_0
  rw [gI_m6, ho.2.2.2.1]
  refine ⟨fun e => ?_, fun e => ?_⟩
  · have hin : ¬ o_in O = true := fun z => by rw [bI_1 z] at e; exact absurd e (by decide)
    unfold pushO at k
    rw [if_neg hin] at k
    rw [gI_m5, ho.1]
    refine ⟨fun e2 => ?_, fun e2 => ?_⟩
    · rw [show (8 : Int32) = nI 8 from rfl, nI_is (by omega) (by decide)] at e2
      rw [if_neg e2] at k
      rw [gR_m1, gI_m5, ho.1]
      refine dV_0 ?_
      rw [show (146 : Int32) = nI 146 from rfl, pk_mul]
      refine mx_copies (u := 0) hG hd ha9 (by decide) ha1 (by omega) (by show _ ≤ 1168; omega) (by omega) (by decide) ?_
      rw [gI_m5, pF_m5]
      refine k _ (fun i hi => ?_) (fun i hi => ?_) (oR2_push (sh := 0) (a := a) ho hw hM hg (fun i hi => ?_) (fun i hi => ?_) ?_ (fun i Mi hi => ⟨hi, fun j hj => ?_⟩) (fun j hj => ?_))
      · exact aU_n hi
      · exact cU_n hi
      · exact aU_n hi
      · exact cU_n hi
      · rw [cU_s]; show s.2 5 + 1 = _; rw [ho.1, nI_1]
      · have hil : i < (o_p O).length := by
          apply Decidable.byContradiction; intro z
          rw [List.getElem?_eq_none (by omega)] at hi; cases hi
        show (cps s a 1 0 (146 * (o_p O).length) 146).1 1 _ = _
        rw [cps_1, pk_cpy_out (by omega)]; rfl
      · show (cps s a 1 0 (146 * (o_p O).length) 146).1 1 _ = _
        rw [cps_1, pk_cpy_in (by omega) (by omega), show 0 + (146 * (o_p O).length + j - 146 * (o_p O).length) = j by omega]
    · rw [show (8 : Int32) = nI 8 from rfl, nI_is (by omega) (by decide)] at e2
      rw [if_pos e2] at k
      have key : ∀ j, j ≤ 1022 → V G E Y_X2_keeps cX2_keeps 3 (QM G E (kV K) xN) (ovl q A (cps s 1 1 146 0 j) h0) 0 0 19 [(0, .ref q), (1, va_rf (some (A a))), (2, .int (nI j))] [] := by
        refine up_to ?_ (fun j hj ih => ?_)
        · refine s_X2_keeps_19 hG (Nat.le_refl _) (Nat.le_refl _) ⟨fun _ => ?_, fun e => absurd (nI_le (Nat.le_refl 1022) (by decide)) e⟩
          rw [gI_m5, pF_m5, gR_m1, gI_m5]
          refine dV_0 ?_
          have e5 : (cU (cps s 1 1 146 0 1022) 5 ((cps s 1 1 146 0 1022).2 5 - 1)).2 5 = nI 7 := by
            rw [cU_s]; show s.2 5 - 1 = _; rw [ho.1, e2]; rfl
          rw [e5, show (146 : Int32) * nI 7 = nI 1022 from rfl]
          refine mx_copies (u := 0) (w := 1022) hG hd ha9 (by decide) ha1 (by omega) (by decide) (by omega) (by decide) ?_
          rw [gI_m5, pF_m5]
          have ht : (o_p O).tail.length = 7 := by rw [List.length_tail]; omega
          refine k _ (fun i hi => ?_) (fun i hi => ?_) (oR2_push (sh := 1) (a := a) ho hw hM hg (fun i hi => ?_) (fun i hi => ?_) ?_ (fun i Mi hi => ⟨?_, fun j hj => ?_⟩) (fun j hj => ?_))
          · show (cps (cU (cps s 1 1 146 0 1022) 5 _) a 1 0 1022 146).1 i = _; rw [cps_n hi]; exact cps_n hi
          · rw [cU_n hi]; exact cU_n hi
          · show (cps (cU (cps s 1 1 146 0 1022) 5 _) a 1 0 1022 146).1 i = _; rw [cps_n hi]; exact cps_n hi
          · rw [cU_n hi]; exact cU_n hi
          · rw [cU_s]
            show (cU (cps s 1 1 146 0 1022) 5 ((cps s 1 1 146 0 1022).2 5 - 1)).2 5 + 1 = _
            rw [e5, ht]; rfl
          · rw [List.getElem?_tail] at hi; exact hi
          · have hil : i < 7 := by
              apply Decidable.byContradiction; intro z
              rw [List.getElem?_eq_none (by omega)] at hi; cases hi
            show (cps (cU (cps s 1 1 146 0 1022) 5 _) a 1 0 1022 146).1 1 _ = _
            rw [cps_1, pk_cpy_out (by omega)]
            show (cps s 1 1 146 0 1022).1 1 _ = _
            rw [cps_1, pk_cpy_in (by omega) (by omega), show 146 + (146 * i + j - 0) = 146 * (i + 1) + j by omega]
          · show (cps (cU (cps s 1 1 146 0 1022) 5 _) a 1 0 1022 146).1 1 _ = _
            rw [cps_1, ht, pk_cpy_in (by omega) (by omega), show 0 + (146 * 7 + j - 1022) = j by omega]
            show (cps s 1 1 146 0 1022).1 a j = _
            rw [cps_n ha1]
        · refine s_X2_keeps_19 hG (Nat.le_refl _) (Nat.le_refl _) ⟨fun e => absurd e (nI_ge hj (by decide)), fun _ => ?_⟩
          rw [gR_m1, gR_m1, show (146 : Int32) = nI 146 from rfl, nI_add, aI_m hd 1 (by decide), vp_n (by omega), nI_clamp (by omega), sI_m hd 1 (by decide), vp_n (by omega), nI_clamp (by omega), cps_S1 (by decide), nI_1]
          exact ⟨by show j + 146 < 1168; omega, by show j < 1168; omega, ih⟩
      have := key 0 (by decide)
      rw [cps_0] at this
      exact this
  · have hin : o_in O = true := Decidable.byContradiction fun z => by rw [bI_0 z] at e; exact e rfl
    unfold pushO at k
    rw [if_pos hin] at k
    exact k s (fun _ _ => rfl) (fun _ _ => rfl) ho
end CP
