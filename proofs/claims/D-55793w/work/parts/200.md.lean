/-! THE MODEL'S OBJECT AS AN OVERLAY: object q of class 2 and its nine int arrays at A 0 .. A 8, over any heap h0 -/
set_option maxRecDepth 100000
/-- arrays: 0 g, 1 kept, 2 saved, 3 before, 4 input, 5 signs, 6 steps, 7 onward, 8 told; scalars by their field numbers -/
abbrev MS : Type := (Nat → Nat → Int32) × (Nat → Int32)
def msz : Nat → Nat := fun i => match i with
  | 0 => 146
  | 1 => 1168
  | 2 => 146
  | 3 => 146
  | 4 => 60
  | 5 => 60
  | 6 => 20
  | 7 => 20
  | _ => 186
def mob (A : Nat → Nat) (c : Nat → Int32) : List Value := [.ref (A 0), .ref (A 1), .ref (A 2), .ref (A 3), .int (c 4), .int (c 5), .int (c 6), .int (c 7), .int (c 8), .ref (A 4), .int (c 10), .ref (A 5), .int (c 12), .ref (A 6), .ref (A 7), .int (c 15), .ref (A 8), .int (c 17)]
def ovl (q : Nat) (A : Nat → Nat) (s : MS) (h0 : Hp) : Hp := fun a => if a = q then some (true, .inr (2, mob A s.2)) else match (List.range 9).find? (fun i => decide (A i = a)) with
  | some i => some (true, .inl (0, msz i, .inl (s.1 i)))
  | none => h0 a
def Dis (q : Nat) (A : Nat → Nat) : Prop := (∀ i, i < 9 → A i ≠ q) ∧ ∀ i j, i < 9 → j < 9 → A i = A j → i = j
def aU (s : MS) (i : Nat) (f : Nat → Int32) : MS := (fun j => if j = i then f else s.1 j, s.2)
def cU (s : MS) (k : Nat) (v : Int32) : MS := (s.1, fun j => if j = k then v else s.2 j)
theorem ovl_q {q : Nat} {A : Nat → Nat} {s : MS} {h0 : Hp} : ovl q A s h0 q = some (true, .inr (2, mob A s.2)) := by simp [ovl]
theorem find_A {q : Nat} {A : Nat → Nat} (hd : Dis q A) {i : Nat} (hi : i < 9) : (List.range 9).find? (fun j => decide (A j = A i)) = some i := by
  rw [List.find?_range_eq_some]
  refine ⟨by simp, by simpa using hi, fun j hj => ?_⟩
  simp only [Bool.not_eq_eq_eq_not, Bool.not_true, decide_eq_false_iff_not]
  exact fun e => absurd (hd.2 j i (by omega) hi e) (by omega)
theorem ovl_a {q : Nat} {A : Nat → Nat} {s : MS} {h0 : Hp} (hd : Dis q A) {i : Nat} (hi : i < 9) : ovl q A s h0 (A i) = some (true, .inl (0, msz i, .inl (s.1 i))) := by
  unfold ovl
  rw [if_neg (hd.1 i hi), find_A hd hi]
theorem ovl_set_a {q : Nat} {A : Nat → Nat} {s : MS} {h0 : Hp} (hd : Dis q A) {i : Nat} (hi : i < 9) (f : Nat → Int32) : hs (ovl q A s h0) (A i) (true, .inl (0, msz i, .inl f)) = ovl q A (aU s i f) h0 := by
  funext a
  by_cases e : a = A i
  · subst e
    rw [hs_eq, ovl_a hd hi]
    simp [aU]
  · rw [hs_ne e]
    unfold ovl
    by_cases e2 : a = q
    · rw [if_pos e2, if_pos e2]; rfl
    · rw [if_neg e2, if_neg e2]
      cases hfd : (List.range 9).find? (fun j => decide (A j = a)) with
      | none => rfl
      | some j =>
        have hj := List.find?_some hfd
        simp only [decide_eq_true_eq] at hj
        have : j ≠ i := fun z => e (by rw [← z]; exact hj.symm)
        simp [aU, this]
theorem ovl_set_q {q : Nat} {A : Nat → Nat} {s : MS} {h0 : Hp} (c : Nat → Int32) : hs (ovl q A s h0) q (true, .inr (2, mob A c)) = ovl q A (s.1, c) h0 := by
  funext a
  by_cases e : a = q
  · subst e
    rw [hs_eq, ovl_q]
  · rw [hs_ne e]
    unfold ovl
    rw [if_neg e, if_neg e]
section MD
variable {q : Nat} {A : Nat → Nat} {s : MS} {h0 : Hp} {P : Prop} {K : Option Nat → Prop} {KI : Int32 → Prop} {KH : Hp → Prop} {i x : Int32}
theorem rv_m : rv (ovl q A s h0) (some q) 2 P ↔ P := ⟨fun ⟨_, _, _, _, _, k⟩ => k, fun k => rv_i ovl_q k⟩
theorem gR_m0 : gR (ovl q A s h0) (some q) 2 0 K ↔ K (some (A 0)) := by
  refine ⟨fun ⟨a, w, fs, x, e, hh, hk, k⟩ => ?_, fun k => gR_i ovl_q rfl k⟩
  cases e; rw [ovl_q] at hh; cases hh
  have hk : some (va_rf (some (A 0))) = some (va_rf x) := hk
  cases x with
  | none => cases hk
  | some y => cases hk; exact k
theorem gR_m1 : gR (ovl q A s h0) (some q) 2 1 K ↔ K (some (A 1)) := by
  refine ⟨fun ⟨a, w, fs, x, e, hh, hk, k⟩ => ?_, fun k => gR_i ovl_q rfl k⟩
  cases e; rw [ovl_q] at hh; cases hh
  have hk : some (va_rf (some (A 1))) = some (va_rf x) := hk
  cases x with
  | none => cases hk
  | some y => cases hk; exact k
theorem gR_m2 : gR (ovl q A s h0) (some q) 2 2 K ↔ K (some (A 2)) := by
  refine ⟨fun ⟨a, w, fs, x, e, hh, hk, k⟩ => ?_, fun k => gR_i ovl_q rfl k⟩
  cases e; rw [ovl_q] at hh; cases hh
  have hk : some (va_rf (some (A 2))) = some (va_rf x) := hk
  cases x with
  | none => cases hk
  | some y => cases hk; exact k
theorem gR_m3 : gR (ovl q A s h0) (some q) 2 3 K ↔ K (some (A 3)) := by
  refine ⟨fun ⟨a, w, fs, x, e, hh, hk, k⟩ => ?_, fun k => gR_i ovl_q rfl k⟩
  cases e; rw [ovl_q] at hh; cases hh
  have hk : some (va_rf (some (A 3))) = some (va_rf x) := hk
  cases x with
  | none => cases hk
  | some y => cases hk; exact k
theorem gR_m9 : gR (ovl q A s h0) (some q) 2 9 K ↔ K (some (A 4)) := by
  refine ⟨fun ⟨a, w, fs, x, e, hh, hk, k⟩ => ?_, fun k => gR_i ovl_q rfl k⟩
  cases e; rw [ovl_q] at hh; cases hh
  have hk : some (va_rf (some (A 4))) = some (va_rf x) := hk
  cases x with
  | none => cases hk
  | some y => cases hk; exact k
theorem gR_m11 : gR (ovl q A s h0) (some q) 2 11 K ↔ K (some (A 5)) := by
  refine ⟨fun ⟨a, w, fs, x, e, hh, hk, k⟩ => ?_, fun k => gR_i ovl_q rfl k⟩
  cases e; rw [ovl_q] at hh; cases hh
  have hk : some (va_rf (some (A 5))) = some (va_rf x) := hk
  cases x with
  | none => cases hk
  | some y => cases hk; exact k
theorem gR_m13 : gR (ovl q A s h0) (some q) 2 13 K ↔ K (some (A 6)) := by
  refine ⟨fun ⟨a, w, fs, x, e, hh, hk, k⟩ => ?_, fun k => gR_i ovl_q rfl k⟩
  cases e; rw [ovl_q] at hh; cases hh
  have hk : some (va_rf (some (A 6))) = some (va_rf x) := hk
  cases x with
  | none => cases hk
  | some y => cases hk; exact k
theorem gR_m14 : gR (ovl q A s h0) (some q) 2 14 K ↔ K (some (A 7)) := by
  refine ⟨fun ⟨a, w, fs, x, e, hh, hk, k⟩ => ?_, fun k => gR_i ovl_q rfl k⟩
  cases e; rw [ovl_q] at hh; cases hh
  have hk : some (va_rf (some (A 7))) = some (va_rf x) := hk
  cases x with
  | none => cases hk
  | some y => cases hk; exact k
theorem gR_m16 : gR (ovl q A s h0) (some q) 2 16 K ↔ K (some (A 8)) := by
  refine ⟨fun ⟨a, w, fs, x, e, hh, hk, k⟩ => ?_, fun k => gR_i ovl_q rfl k⟩
  cases e; rw [ovl_q] at hh; cases hh
  have hk : some (va_rf (some (A 8))) = some (va_rf x) := hk
  cases x with
  | none => cases hk
  | some y => cases hk; exact k
theorem gI_m4 : gI (ovl q A s h0) (some q) 2 4 KI ↔ KI (s.2 4) := by
  refine ⟨fun ⟨a, w, fs, x, e, hh, hk, k⟩ => ?_, fun k => gI_i ovl_q rfl k⟩
  cases e; rw [ovl_q] at hh; cases hh; cases hk; exact k
theorem pF_m4 : pF (ovl q A s h0) (some q) 2 4 (.int x) KH ↔ KH (ovl q A (cU s 4 x) h0) := by
  have key : hs (ovl q A s h0) q (true, .inr (2, (mob A s.2).set 4 (.int x))) = ovl q A (cU s 4 x) h0 := ovl_set_q (cU s 4 x).2
  refine ⟨fun ⟨a, fs, e, hh, k⟩ => ?_, fun k => pF_i ovl_q (by rw [key]; exact k)⟩
  cases e; rw [ovl_q] at hh; cases hh; rw [key] at k; exact k
theorem gI_m5 : gI (ovl q A s h0) (some q) 2 5 KI ↔ KI (s.2 5) := by
  refine ⟨fun ⟨a, w, fs, x, e, hh, hk, k⟩ => ?_, fun k => gI_i ovl_q rfl k⟩
  cases e; rw [ovl_q] at hh; cases hh; cases hk; exact k
theorem pF_m5 : pF (ovl q A s h0) (some q) 2 5 (.int x) KH ↔ KH (ovl q A (cU s 5 x) h0) := by
  have key : hs (ovl q A s h0) q (true, .inr (2, (mob A s.2).set 5 (.int x))) = ovl q A (cU s 5 x) h0 := ovl_set_q (cU s 5 x).2
  refine ⟨fun ⟨a, fs, e, hh, k⟩ => ?_, fun k => pF_i ovl_q (by rw [key]; exact k)⟩
  cases e; rw [ovl_q] at hh; cases hh; rw [key] at k; exact k
theorem gI_m6 : gI (ovl q A s h0) (some q) 2 6 KI ↔ KI (s.2 6) := by
  refine ⟨fun ⟨a, w, fs, x, e, hh, hk, k⟩ => ?_, fun k => gI_i ovl_q rfl k⟩
  cases e; rw [ovl_q] at hh; cases hh; cases hk; exact k
theorem pF_m6 : pF (ovl q A s h0) (some q) 2 6 (.int x) KH ↔ KH (ovl q A (cU s 6 x) h0) := by
  have key : hs (ovl q A s h0) q (true, .inr (2, (mob A s.2).set 6 (.int x))) = ovl q A (cU s 6 x) h0 := ovl_set_q (cU s 6 x).2
  refine ⟨fun ⟨a, fs, e, hh, k⟩ => ?_, fun k => pF_i ovl_q (by rw [key]; exact k)⟩
  cases e; rw [ovl_q] at hh; cases hh; rw [key] at k; exact k
theorem gI_m7 : gI (ovl q A s h0) (some q) 2 7 KI ↔ KI (s.2 7) := by
  refine ⟨fun ⟨a, w, fs, x, e, hh, hk, k⟩ => ?_, fun k => gI_i ovl_q rfl k⟩
  cases e; rw [ovl_q] at hh; cases hh; cases hk; exact k
theorem pF_m7 : pF (ovl q A s h0) (some q) 2 7 (.int x) KH ↔ KH (ovl q A (cU s 7 x) h0) := by
  have key : hs (ovl q A s h0) q (true, .inr (2, (mob A s.2).set 7 (.int x))) = ovl q A (cU s 7 x) h0 := ovl_set_q (cU s 7 x).2
  refine ⟨fun ⟨a, fs, e, hh, k⟩ => ?_, fun k => pF_i ovl_q (by rw [key]; exact k)⟩
  cases e; rw [ovl_q] at hh; cases hh; rw [key] at k; exact k
theorem gI_m8 : gI (ovl q A s h0) (some q) 2 8 KI ↔ KI (s.2 8) := by
  refine ⟨fun ⟨a, w, fs, x, e, hh, hk, k⟩ => ?_, fun k => gI_i ovl_q rfl k⟩
  cases e; rw [ovl_q] at hh; cases hh; cases hk; exact k
theorem pF_m8 : pF (ovl q A s h0) (some q) 2 8 (.int x) KH ↔ KH (ovl q A (cU s 8 x) h0) := by
  have key : hs (ovl q A s h0) q (true, .inr (2, (mob A s.2).set 8 (.int x))) = ovl q A (cU s 8 x) h0 := ovl_set_q (cU s 8 x).2
  refine ⟨fun ⟨a, fs, e, hh, k⟩ => ?_, fun k => pF_i ovl_q (by rw [key]; exact k)⟩
  cases e; rw [ovl_q] at hh; cases hh; rw [key] at k; exact k
theorem gI_m10 : gI (ovl q A s h0) (some q) 2 10 KI ↔ KI (s.2 10) := by
  refine ⟨fun ⟨a, w, fs, x, e, hh, hk, k⟩ => ?_, fun k => gI_i ovl_q rfl k⟩
  cases e; rw [ovl_q] at hh; cases hh; cases hk; exact k
theorem pF_m10 : pF (ovl q A s h0) (some q) 2 10 (.int x) KH ↔ KH (ovl q A (cU s 10 x) h0) := by
  have key : hs (ovl q A s h0) q (true, .inr (2, (mob A s.2).set 10 (.int x))) = ovl q A (cU s 10 x) h0 := ovl_set_q (cU s 10 x).2
  refine ⟨fun ⟨a, fs, e, hh, k⟩ => ?_, fun k => pF_i ovl_q (by rw [key]; exact k)⟩
  cases e; rw [ovl_q] at hh; cases hh; rw [key] at k; exact k
theorem gI_m12 : gI (ovl q A s h0) (some q) 2 12 KI ↔ KI (s.2 12) := by
  refine ⟨fun ⟨a, w, fs, x, e, hh, hk, k⟩ => ?_, fun k => gI_i ovl_q rfl k⟩
  cases e; rw [ovl_q] at hh; cases hh; cases hk; exact k
theorem pF_m12 : pF (ovl q A s h0) (some q) 2 12 (.int x) KH ↔ KH (ovl q A (cU s 12 x) h0) := by
  have key : hs (ovl q A s h0) q (true, .inr (2, (mob A s.2).set 12 (.int x))) = ovl q A (cU s 12 x) h0 := ovl_set_q (cU s 12 x).2
  refine ⟨fun ⟨a, fs, e, hh, k⟩ => ?_, fun k => pF_i ovl_q (by rw [key]; exact k)⟩
  cases e; rw [ovl_q] at hh; cases hh; rw [key] at k; exact k
theorem gI_m15 : gI (ovl q A s h0) (some q) 2 15 KI ↔ KI (s.2 15) := by
  refine ⟨fun ⟨a, w, fs, x, e, hh, hk, k⟩ => ?_, fun k => gI_i ovl_q rfl k⟩
  cases e; rw [ovl_q] at hh; cases hh; cases hk; exact k
theorem pF_m15 : pF (ovl q A s h0) (some q) 2 15 (.int x) KH ↔ KH (ovl q A (cU s 15 x) h0) := by
  have key : hs (ovl q A s h0) q (true, .inr (2, (mob A s.2).set 15 (.int x))) = ovl q A (cU s 15 x) h0 := ovl_set_q (cU s 15 x).2
  refine ⟨fun ⟨a, fs, e, hh, k⟩ => ?_, fun k => pF_i ovl_q (by rw [key]; exact k)⟩
  cases e; rw [ovl_q] at hh; cases hh; rw [key] at k; exact k
theorem gI_m17 : gI (ovl q A s h0) (some q) 2 17 KI ↔ KI (s.2 17) := by
  refine ⟨fun ⟨a, w, fs, x, e, hh, hk, k⟩ => ?_, fun k => gI_i ovl_q rfl k⟩
  cases e; rw [ovl_q] at hh; cases hh; cases hk; exact k
theorem pF_m17 : pF (ovl q A s h0) (some q) 2 17 (.int x) KH ↔ KH (ovl q A (cU s 17 x) h0) := by
  have key : hs (ovl q A s h0) q (true, .inr (2, (mob A s.2).set 17 (.int x))) = ovl q A (cU s 17 x) h0 := ovl_set_q (cU s 17 x).2
  refine ⟨fun ⟨a, fs, e, hh, k⟩ => ?_, fun k => pF_i ovl_q (by rw [key]; exact k)⟩
  cases e; rw [ovl_q] at hh; cases hh; rw [key] at k; exact k
theorem aI_m (hd : Dis q A) (n : Nat) (hn : n < 9) : aI (ovl q A s h0) (some (A n)) 0 i KI ↔ (vp_in i (msz n) ∧ KI (s.1 n i.toNatClampNeg)) := by
  refine ⟨fun ⟨a, w, N, f, e, hh, hk, k⟩ => ?_, fun k => aI_i (ovl_a hd hn) k.1 k.2⟩
  cases e; rw [ovl_a hd hn] at hh; cases hh; exact ⟨hk, k⟩
theorem sI_m (hd : Dis q A) (n : Nat) (hn : n < 9) : sI (ovl q A s h0) (some (A n)) i x KH ↔ (vp_in i (msz n) ∧ KH (ovl q A (aU s n (upd (s.1 n) i.toNatClampNeg x)) h0)) := by
  refine ⟨fun ⟨a, N, f, e, hh, hk, k⟩ => ?_, fun k => sI_i (ovl_a hd hn) k.1 (by rw [ovl_set_a hd hn]; exact k.2)⟩
  cases e; rw [ovl_a hd hn] at hh; cases hh; rw [ovl_set_a hd hn] at k; exact ⟨hk, k⟩
end MD
/-! numbers -/
theorem vp_n {n N : Nat} (hn : n < 2 ^ 31) : vp_in (nI n) N ↔ n < N := by
  unfold vp_in
  rw [nI_clamp hn]
  constructor
  · intro h; apply Nat.not_le.mp; exact fun z => h (Or.inr z)
  · intro h z
    rcases z with z | z
    · exact nI_pos hn z
    · omega
theorem gx_room (r : Nat) : (10 : Int32) + (4 : Int32) * nI r = nI (10 + 4 * r) := by
  rw [show (10 : Int32) = nI 10 from rfl, show (4 : Int32) = nI 4 from rfl, pk_mul, nI_add]
theorem gx_door (d w : Nat) : ((50 : Int32) + (6 : Int32) * nI d) + nI w = nI (50 + 6 * d + w) := by
  rw [show (50 : Int32) = nI 50 from rfl, show (6 : Int32) = nI 6 from rfl, pk_mul, nI_add, nI_add]
