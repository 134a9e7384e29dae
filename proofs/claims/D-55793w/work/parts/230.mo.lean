/-! THE OUTER STATE, and the model's copies and keeps -/
set_option maxRecDepth 100000
/-- the maze that is; what was, oldest first; what is saved; reason and detail; text; line; whether inside a run -/
abbrev Ou : Type := Mz × List Mz × Option Mz × (Int32 × Int32) × List Nat × List Nat × Bool
abbrev o_c (O : Ou) : Mz := O.1
abbrev o_p (O : Ou) : List Mz := O.2.1
abbrev o_s (O : Ou) : Option Mz := O.2.2.1
abbrev o_w (O : Ou) : Int32 := O.2.2.2.1.1
abbrev o_d (O : Ou) : Int32 := O.2.2.2.1.2
abbrev o_t (O : Ou) : List Nat := O.2.2.2.2.1
abbrev o_l (O : Ou) : List Nat := O.2.2.2.2.2.1
abbrev o_in (O : Ou) : Bool := O.2.2.2.2.2.2
def wfO (O : Ou) (N : Nat) : Prop := wf (o_c O) N ∧ (∀ M, M ∈ o_p O → wf M N) ∧ (∀ M, o_s O = some M → wf M N) ∧ (o_p O).length ≤ 8 ∧ (o_t O).length ≤ 60 ∧ (∀ x, x ∈ o_t O → 32 ≤ x ∧ x < 127) ∧ (o_l O).length ≤ 60 ∧ (∀ x, x ∈ o_l O → 32 ≤ x ∧ x < 127)
/-- all but the maze that is -/
def oR2 (s : MS) (O : Ou) : Prop := s.2 5 = nI (o_p O).length ∧ (∀ i M, (o_p O)[i]? = some M → gRep (fun j => s.1 1 (146 * i + j)) M) ∧ ((s.2 4 = 0 ∧ o_s O = none) ∨ ∃ M, s.2 4 = 1 ∧ o_s O = some M ∧ gRep (s.1 2) M) ∧ s.2 6 = bI (o_in O = true) ∧ s.2 7 = o_w O ∧ s.2 8 = o_d O ∧ s.2 10 = nI (o_t O).length ∧ (∀ i x, (o_t O)[i]? = some x → s.1 4 i = nI x) ∧ s.2 12 = nI (o_l O).length ∧ (∀ i x, (o_l O)[i]? = some x → s.1 5 i = nI x)
def oRep (s : MS) (O : Ou) : Prop := gRep (s.1 0) (o_c O) ∧ oR2 s O
/-- what a call inside a run leaves -/
def Fr (s s' : MS) : Prop := s'.1 3 = s.1 3 ∧ s'.1 8 = s.1 8 ∧ s'.2 15 = s.2 15 ∧ s'.2 17 = s.2 17
theorem Fr_r (s : MS) : Fr s s := ⟨rfl, rfl, rfl, rfl⟩
theorem Fr_t {s s' s2 : MS} (h : Fr s s') (h2 : Fr s' s2) : Fr s s2 := ⟨h2.1.trans h.1, h2.2.1.trans h.2.1, h2.2.2.1.trans h.2.2.1, h2.2.2.2.trans h.2.2.2⟩
theorem Fr_a {s s' : MS} {i : Nat} {f : Nat → Int32} (h : Fr s s') (h3 : i ≠ 3) (h8 : i ≠ 8) : Fr s (aU s' i f) := by
  obtain ⟨a, b, c, d⟩ := h
  refine ⟨?_, ?_, c, d⟩
  · rw [← a]; exact if_neg (fun z => h3 z.symm)
  · rw [← b]; exact if_neg (fun z => h8 z.symm)
theorem Fr_c {s s' : MS} {i : Nat} {x : Int32} (h : Fr s s') (h3 : i ≠ 15) (h8 : i ≠ 17) : Fr s (cU s' i x) := by
  obtain ⟨a, b, c, d⟩ := h
  refine ⟨a, b, ?_, ?_⟩
  · rw [← c]; exact if_neg (fun z => h3 z.symm)
  · rw [← d]; exact if_neg (fun z => h8 z.symm)
theorem aU_s {s : MS} {i : Nat} {f : Nat → Int32} : (aU s i f).1 i = f := if_pos rfl
theorem aU_n {s : MS} {i j : Nat} {f : Nat → Int32} (h : j ≠ i) : (aU s i f).1 j = s.1 j := if_neg h
theorem cU_s {s : MS} {i : Nat} {x : Int32} : (cU s i x).2 i = x := if_pos rfl
theorem cU_n {s : MS} {i j : Nat} {x : Int32} (h : j ≠ i) : (cU s i x).2 j = s.2 j := if_neg h
/-- from a heap's step to all: backward -/
theorem up_to {P : Nat → Prop} {n : Nat} (h : P n) (st : ∀ j, j < n → P (j + 1) → P j) : ∀ j, j ≤ n → P j := by
  have key : ∀ d, d ≤ n → P (n - d) := by
    intro d
    induction d with
    | zero => intro _; exact h
    | succ d ih =>
      intro hd
      refine st (n - (d + 1)) (by omega) ?_
      rw [show n - (d + 1) + 1 = n - d by omega]
      exact ih (by omega)
  intro j hj
  have := key (n - j) (by omega)
  rw [show n - (n - j) = j by omega] at this
  exact this
theorem gRep_c {g g' : Nat → Int32} {M : Mz} {N : Nat} (hw : wf M N) (hg : gRep g M) (h : ∀ j, j < 146 → g' j = g j) : gRep g' M := by
  obtain ⟨h0, h1, h2, h3, h4, h5, h6, h7, h8, h9, h10⟩ := hg
  have w1 := wf_nR hw
  have w2 := wf_nD hw
  refine ⟨?_, ?_, ?_, ?_, fun c hc => ?_, ?_, ?_, ?_, fun r hr => ⟨?_, fun c hc => ?_⟩, fun d hd => ?_, fun r c hr hr2 hc => ?_⟩
  · rw [h _ (by omega), h0]
  · rw [h _ (by omega), h1]
  · rw [h _ (by omega), h2]
  · rw [h _ (by omega), h3]
  · rw [h _ (by omega), h4 c hc]
  · rw [h _ (by omega), h5]
  · rw [h _ (by omega), h6]
  · rw [h _ (by omega), h7]
  · rw [h _ (by omega), (h8 r hr).1]
  · rw [h _ (by omega), (h8 r hr).2 c hc]
  · rw [h _ (by omega), h _ (by omega), h _ (by omega), h _ (by omega), h _ (by omega), h _ (by omega)]
    exact h9 d hd
  · rw [h _ (by omega), h10 r c hr hr2 hc]
def cps (s : MS) (a b u w j : Nat) : MS := aU s b (va_cpy (s.1 a) (s.1 b) u w j)
theorem cps_0 {s : MS} {a b u w : Nat} : cps s a b u w 0 = s := by
  refine Prod.ext (funext fun i => ?_) rfl
  by_cases e : i = b
  · subst e
    show (aU s i _).1 i = _
    rw [aU_s]
    funext x
    rw [pk_cpy_out (by omega)]
  · exact aU_n e
theorem cps_S {s : MS} {a b u w j : Nat} (hab : a ≠ b) : aU (cps s a b u w j) b (upd ((cps s a b u w j).1 b) (w + j) ((cps s a b u w j).1 a (u + j))) = cps s a b u w (j + 1) := by
  refine Prod.ext (funext fun i => ?_) rfl
  by_cases e : i = b
  · subst e
    rw [aU_s]
    show upd ((aU s i _).1 i) (w + j) ((aU s i _).1 a (u + j)) = (aU s i _).1 i
    rw [aU_s, aU_s, aU_n hab]
    funext x
    by_cases e2 : x = w + j
    · subst e2
      rw [pk_us, pk_cpy_in (by omega) (by omega), show w + j - w = j by omega]
    · rw [pk_un e2]
      by_cases e3 : w ≤ x ∧ x < w + j
      · rw [pk_cpy_in e3.1 e3.2, pk_cpy_in e3.1 (by omega)]
      · rw [pk_cpy_out (by omega), pk_cpy_out (by omega)]
  · rw [aU_n e]; show (aU s b _).1 i = (aU s b _).1 i; rw [aU_n e, aU_n e]
section CP
variable {G : Gt} {q : Nat} {A : Nat → Nat} {s : MS} {h0 : Hp}
theorem mx_copies {K : Hp → Prop} (hG : Base G) (hd : Dis q A) {a b u w : Nat} (ha : a < 9) (hb : b < 9) (hab : a ≠ b) (hu : u + 146 ≤ msz a) (hw : w + 146 ≤ msz b) (hm : msz a ≤ 2000) (hm2 : msz b ≤ 2000) (k : K (ovl q A (cps s a b u w 146) h0)) : MM G Y_X2_copies cX2_copies 5 0 0 [.ref (A a), .int (nI u), .ref (A b), .int (nI w)] (ovl q A s h0) (kV K) xN := by
  refine b_X2_copies (r_0 := some (A a)) (r_2 := some (A b)) hG (fun E => s_X2_copies_0 (r_0 := some (A a)) (r_2 := some (A b)) hG (Nat.le_refl _) (Nat.le_refl _) ?_)
  have key : ∀ j, j ≤ 146 → V G E Y_X2_copies cX2_copies 5 (QM G E (kV K) xN) (ovl q A (cps s a b u w j) h0) 0 0 3 [(0, va_rf (some (A a))), (1, .int (nI u)), (2, va_rf (some (A b))), (3, .int (nI w)), (4, .int (nI j))] [] := by
    refine up_to ?_ (fun j hj ih => ?_)
    · exact s_X2_copies_3 hG (Nat.le_refl _) (Nat.le_refl _) ⟨fun _ => k, fun e => absurd (nI_le (Nat.le_refl 146) (by decide)) e⟩
    · refine s_X2_copies_3 hG (Nat.le_refl _) (Nat.le_refl _) ⟨fun e => absurd e (nI_ge hj (by decide)), fun _ => ?_⟩
      rw [nI_add, aI_m hd a ha, vp_n (by omega), nI_clamp (by omega)]
      refine ⟨by omega, ?_⟩
      rw [nI_add, sI_m hd b hb, vp_n (by omega), nI_clamp (by omega), cps_S hab, nI_1]
      exact ⟨by omega, ih⟩
  have := key 0 (by decide)
  rw [cps_0] at this
  exact this
end CP
