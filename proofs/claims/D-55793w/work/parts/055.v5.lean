/-! LAYER V, fifth part: the atoms of the formulas, and words of calls -/
set_option maxRecDepth 100000
theorem lw_l5 {w1 w2 w3 w4 w5 : Cond} (h1 : w1 ∈ lw_all) (h2 : w2 ∈ lw_all) (h3 : w3 ∈ lw_all) (h4 : w4 ∈ lw_all) (h5 : w5 ∈ lw_all) : ∀ w ∈ [w1, w2, w3, w4, w5], w ∈ lw_all := by
  intro w hw
  simp only [List.mem_cons, List.not_mem_nil, or_false] at hw
  rcases hw with e | e | e | e | e
  · rw [e]; exact h1
  · rw [e]; exact h2
  · rw [e]; exact h3
  · rw [e]; exact h4
  · rw [e]; exact h5
theorem lw_U {own : String} {idx : Nat} {C owner : String} {x y : MethodName} {b : ByteArray} {L : Nat} {r : Option FieldType} (h1 : Cond.methodLink own idx x ∈ lw_all) (h2 : Cond.sameMethod x.cls owner x.name x.desc ∈ lw_all) (h3 : Cond.selects C x y ∈ lw_all) (h4 : Cond.instanceMethod y ∈ lw_all) (h5 : Cond.initialized y.cls ∈ lw_all) (h6 : Cond.code y b L r ∈ lw_all) : GoodIn lw_all (va_wsU own idx C owner x y (ws_ y b L r)) := lw_app (lw_l5 h1 h2 h3 h4 h5) (lw_meth h6)
theorem lw_SU {own : String} {idx : Nat} {y : MethodName} {b : ByteArray} {L : Nat} {r : Option FieldType} (h1 : Cond.methodLink own idx y ∈ lw_all) (h2 : Cond.sameMethod y.cls y.cls y.name y.desc ∈ lw_all) (h3 : Cond.superclass own y.cls ∈ lw_all) (h4 : Cond.instanceMethod y ∈ lw_all) (h5 : Cond.initialized y.cls ∈ lw_all) (h6 : Cond.code y b L r ∈ lw_all) : GoodIn lw_all (va_wsSU own idx y (ws_ y b L r)) := lw_app (lw_l5 h1 h2 h3 h4 h5) (lw_meth h6)
theorem lw_O {own : String} {idx : Nat} {C owner : String} {x y : MethodName} {b : ByteArray} {L : Nat} {r : Option FieldType} (h1 : Cond.methodLink own idx x ∈ lw_all) (h2 : Cond.sameMethod x.cls owner x.name x.desc ∈ lw_all) (h3 : Cond.instanceMethod ⟨owner, x.name, x.desc⟩ ∈ lw_all) (h4 : Cond.selects C x y ∈ lw_all) (h5 : Cond.instanceMethod y ∈ lw_all) (h7 : Cond.initialized y.cls ∈ lw_all) (h6 : Cond.code y b L r ∈ lw_all) : GoodIn lw_all (va_wsO own idx C owner x y (ws_ y b L r)) := lw_app (by
  intro w hw
  rcases List.mem_cons.mp hw with e | hw
  · rw [e]; exact h1
  · exact lw_l5 h2 h3 h4 h5 h7 w hw) (lw_meth h6)
theorem lw_F {own : String} {idx : Nat} {C : String} {x y : MethodName} {b : ByteArray} {L : Nat} {r : Option FieldType} (h1 : Cond.methodLink own idx x ∈ lw_all) (h3 : Cond.selects C x y ∈ lw_all) (h4 : Cond.instanceMethod y ∈ lw_all) (h5 : Cond.initialized y.cls ∈ lw_all) (h6 : Cond.code y b L r ∈ lw_all) : GoodIn lw_all (va_wsF own idx C x y (ws_ y b L r)) := lw_app (by
  intro w hw
  simp only [List.mem_cons, List.not_mem_nil, or_false] at hw
  rcases hw with e | e | e | e
  · rw [e]; exact h1
  · rw [e]; exact h3
  · rw [e]; exact h4
  · rw [e]; exact h5) (lw_meth h6)
/-- no throw -/
def xN : Nat → Nat → Hp → Prop := fun _ _ _ => False
/-- a method's end, by the kind of its answer -/
def kI (K : Int32 → Hp → Prop) : Option Value → Hp → Prop := fun v h => ∃ r, v = some (.int r) ∧ K r h
def kR (K : Option Nat → Hp → Prop) : Option Value → Hp → Prop := fun v h => ∃ r, v = some (va_rf r) ∧ K r h
def kL (K : Int64 → Hp → Prop) : Option Value → Hp → Prop := fun v h => ∃ r, v = some (.long r) ∧ K r h
def kF (K : UInt32 → Hp → Prop) : Option Value → Hp → Prop := fun v h => ∃ r, v = some (.float r) ∧ K r h
def kD (K : UInt64 → Hp → Prop) : Option Value → Hp → Prop := fun v h => ∃ r, v = some (.double r) ∧ K r h
def kV (K : Hp → Prop) : Option Value → Hp → Prop := fun v h => v = none ∧ K h
/-- the heap has an object of class ci at r -/
def rv (h : Hp) (r : Option Nat) (ci : Nat) (K : Prop) : Prop := ∃ a w fs, r = some a ∧ h a = some (w, .inr (ci, fs)) ∧ K
def gI (h : Hp) (r : Option Nat) (ci kf : Nat) (K : Int32 → Prop) : Prop := ∃ a w fs x, r = some a ∧ h a = some (w, .inr (ci, fs)) ∧ fs[kf]? = some (.int x) ∧ K x
def gR (h : Hp) (r : Option Nat) (ci kf : Nat) (K : Option Nat → Prop) : Prop := ∃ a w fs x, r = some a ∧ h a = some (w, .inr (ci, fs)) ∧ fs[kf]? = some (va_rf x) ∧ K x
def gF (h : Hp) (r : Option Nat) (ci kf : Nat) (K : UInt32 → Prop) : Prop := ∃ a w fs x, r = some a ∧ h a = some (w, .inr (ci, fs)) ∧ fs[kf]? = some (.float x) ∧ K x
def pF (h : Hp) (r : Option Nat) (ci kf : Nat) (v : Value) (K : Hp → Prop) : Prop := ∃ a fs, r = some a ∧ h a = some (true, .inr (ci, fs)) ∧ K (hs h a (true, .inr (ci, fs.set kf v)))
def nO (h : Hp) (ci : Nat) (fs : List Value) (K : Nat → Hp → Prop) : Prop := ∀ a, h a = none → K a (hs h a (true, .inr (ci, fs)))
def nA (h : Hp) (t : Nat) (x : vp_A) (K : Nat → Hp → Prop) : Prop := ∀ a, h a = none → K a (hs h a (true, .inl (t, x)))
/-- an array of a size that is computed, at most b -/
def nD (z : Int32) (b : Nat) (K : Nat → Prop) : Prop := ∃ N : Nat, z.toInt = (N : Int) ∧ N ≤ b ∧ K N
def aL (h : Hp) (r : Option Nat) (K : Int32 → Prop) : Prop := ∃ a w t x, r = some a ∧ h a = some (w, .inl (t, x)) ∧ K (Int32.ofNat x.1)
def aI (h : Hp) (r : Option Nat) (t : Nat) (i : Int32) (K : Int32 → Prop) : Prop := ∃ a w N f, r = some a ∧ h a = some (w, .inl (t, N, .inl f)) ∧ vp_in i N ∧ K (f i.toNatClampNeg)
def aJ (h : Hp) (r : Option Nat) (t : Nat) (i : Int32) (K : Int64 → Prop) : Prop := ∃ a w N f, r = some a ∧ h a = some (w, .inl (t, N, .inr (.inl f))) ∧ vp_in i N ∧ K (f i.toNatClampNeg)
def aQ (h : Hp) (r : Option Nat) (i : Int32) (K : Option Nat → Prop) : Prop := ∃ a w t N f, r = some a ∧ h a = some (w, .inl (t, N, .inr (.inr (.inr (.inr f))))) ∧ (AT t).isReference = true ∧ vp_in i N ∧ K (f i.toNatClampNeg)
def sI (h : Hp) (r : Option Nat) (i x : Int32) (K : Hp → Prop) : Prop := ∃ a N f, r = some a ∧ h a = some (true, .inl (0, N, .inl f)) ∧ vp_in i N ∧ K (hs h a (true, .inl (0, N, .inl (upd f i.toNatClampNeg x))))
def sB (h : Hp) (r : Option Nat) (i x : Int32) (K : Hp → Prop) : Prop := ∃ a N f, r = some a ∧ h a = some (true, .inl (1, N, .inl f)) ∧ vp_in i N ∧ K (hs h a (true, .inl (1, N, .inl (upd f i.toNatClampNeg (vp_nar .byte x)))))
def sJ (h : Hp) (r : Option Nat) (i : Int32) (x : Int64) (K : Hp → Prop) : Prop := ∃ a N f, r = some a ∧ h a = some (true, .inl (2, N, .inr (.inl f))) ∧ vp_in i N ∧ K (hs h a (true, .inl (2, N, .inr (.inl (vp_updL f i.toNatClampNeg x)))))
/-- objects of class ci may lie in arrays of kind t -/
def cOK (ci t : Nat) : Prop := ∃ r D, CL[ci]? = some r ∧ AT t = .object D ∧ (r.1 = D ∨ Cond.castable r.1 D ∈ lw_tbl)
def sQ (h : Hp) (r : Option Nat) (i : Int32) (y : Option Nat) (K : Hp → Prop) : Prop := ∃ a t N f, r = some a ∧ h a = some (true, .inl (t, N, .inr (.inr (.inr (.inr f))))) ∧ (∃ D, AT t = .object D) ∧ vp_in i N ∧ (∀ b, y = some b → ∃ w ci fs, h b = some (w, .inr (ci, fs)) ∧ cOK ci t) ∧ K (hs h a (true, .inl (t, N, .inr (.inr (.inr (.inr (va_up f i.toNatClampNeg y)))))))
/-- null, or an object of class ci -/
def oc (h : Hp) (r : Option Nat) (ci : Nat) : Prop := ∀ a, r = some a → ∃ w fs, h a = some (w, .inr (ci, fs))
section AT
variable {G : Gt} {E : Ev} {Y : Yt} {cc : ByteArray} {nL : Nat} {Q : State → Prop} {h : Hp} {k n pc : Nat} {lv : List (Nat × Value)} {st : List Value}
theorem v_sQ {a t N : Nat} {f : Nat → Option Nat} {i : Int32} {y : Option Nat} (hd : decode cc pc = .ok (.aastore, 1)) (hat : ∃ D, AT t = .object D) (hh : h a = some (true, .inl (t, N, .inr (.inr (.inr (.inr f)))))) (hi : vp_in i N) (hy : ∀ b, y = some b → ∃ w ci fs, h b = some (w, .inr (ci, fs)) ∧ cOK ci t) (kk : V G E Y cc nL Q (hs h a (true, .inl (t, N, .inr (.inr (.inr (.inr (va_up f i.toNatClampNeg y))))))) k n (pc + 1) lv st) : V G E Y cc nL Q h k n pc lv (va_rf y :: .int i :: .ref a :: st) := by
  obtain ⟨D, hat⟩ := hat
  cases y with
  | none => exact v_aastN hd hat hh hi kk
  | some b =>
    obtain ⟨w, ci, fs, hb, ⟨C0, T0, N0⟩, D0, hc, hD, hca⟩ := hy b rfl
    cases hat.symm.trans hD
    exact v_aast hd hat hh hi hb hc hca kk
theorem v_castQ {r : Option Nat} {ci index : Nat} {D nm : String} {T : u_T} {N : Nat} (hd : decode cc pc = .ok (.checkcast index, 3)) (hl : Cond.classLink (y_n Y).cls index nm ∈ lw_all) (ho : oc h r ci) (hc : CL[ci]? = some (D, T, N)) (hca : Cond.castable D nm ∈ lw_tbl) (kk : V G E Y cc nL Q h k n (pc + 3) lv (va_rf r :: st)) : V G E Y cc nL Q h k n pc lv (va_rf r :: st) := by
  cases r with
  | none => exact v_castN hd kk
  | some a =>
    obtain ⟨w, fs, hh⟩ := ho a rfl
    exact v_cast hd hl hh hc hca kk
theorem v_castQS {r : Option Nat} {ci index : Nat} {D : String} {T : u_T} {N : Nat} (hd : decode cc pc = .ok (.checkcast index, 3)) (hl : Cond.classLink (y_n Y).cls index D ∈ lw_all) (ho : oc h r ci) (hc : CL[ci]? = some (D, T, N)) (kk : V G E Y cc nL Q h k n (pc + 3) lv (va_rf r :: st)) : V G E Y cc nL Q h k n pc lv (va_rf r :: st) := by
  cases r with
  | none => exact v_castN hd kk
  | some a =>
    obtain ⟨w, fs, hh⟩ := ho a rfl
    exact v_castS hd hl hh hc kk
end AT
/-! for the pure part: how an atom is met -/
theorem rv_i {h : Hp} {a ci : Nat} {w : Bool} {fs : List Value} {K : Prop} (hh : h a = some (w, .inr (ci, fs))) (kk : K) : rv h (some a) ci K := ⟨a, w, fs, rfl, hh, kk⟩
theorem gI_i {h : Hp} {a ci kf : Nat} {w : Bool} {fs : List Value} {x : Int32} {K : Int32 → Prop} (hh : h a = some (w, .inr (ci, fs))) (hv : fs[kf]? = some (.int x)) (kk : K x) : gI h (some a) ci kf K := ⟨a, w, fs, x, rfl, hh, hv, kk⟩
theorem gR_i {h : Hp} {a ci kf : Nat} {w : Bool} {fs : List Value} {x : Option Nat} {K : Option Nat → Prop} (hh : h a = some (w, .inr (ci, fs))) (hv : fs[kf]? = some (va_rf x)) (kk : K x) : gR h (some a) ci kf K := ⟨a, w, fs, x, rfl, hh, hv, kk⟩
theorem gF_i {h : Hp} {a ci kf : Nat} {w : Bool} {fs : List Value} {x : UInt32} {K : UInt32 → Prop} (hh : h a = some (w, .inr (ci, fs))) (hv : fs[kf]? = some (.float x)) (kk : K x) : gF h (some a) ci kf K := ⟨a, w, fs, x, rfl, hh, hv, kk⟩
theorem pF_i {h : Hp} {a ci kf : Nat} {fs : List Value} {v : Value} {K : Hp → Prop} (hh : h a = some (true, .inr (ci, fs))) (kk : K (hs h a (true, .inr (ci, fs.set kf v)))) : pF h (some a) ci kf v K := ⟨a, fs, rfl, hh, kk⟩
theorem aL_i {h : Hp} {a t : Nat} {w : Bool} {x : vp_A} {K : Int32 → Prop} (hh : h a = some (w, .inl (t, x))) (kk : K (Int32.ofNat x.1)) : aL h (some a) K := ⟨a, w, t, x, rfl, hh, kk⟩
theorem aI_i {h : Hp} {a t N : Nat} {w : Bool} {f : Nat → Int32} {i : Int32} {K : Int32 → Prop} (hh : h a = some (w, .inl (t, N, .inl f))) (hi : vp_in i N) (kk : K (f i.toNatClampNeg)) : aI h (some a) t i K := ⟨a, w, N, f, rfl, hh, hi, kk⟩
theorem aQ_i {h : Hp} {a t N : Nat} {w : Bool} {f : Nat → Option Nat} {i : Int32} {K : Option Nat → Prop} (hh : h a = some (w, .inl (t, N, .inr (.inr (.inr (.inr f)))))) (ht : (AT t).isReference = true) (hi : vp_in i N) (kk : K (f i.toNatClampNeg)) : aQ h (some a) i K := ⟨a, w, t, N, f, rfl, hh, ht, hi, kk⟩
theorem sI_i {h : Hp} {a N : Nat} {f : Nat → Int32} {i x : Int32} {K : Hp → Prop} (hh : h a = some (true, .inl (0, N, .inl f))) (hi : vp_in i N) (kk : K (hs h a (true, .inl (0, N, .inl (upd f i.toNatClampNeg x))))) : sI h (some a) i x K := ⟨a, N, f, rfl, hh, hi, kk⟩
/-! for the walks: how an atom is taken apart -/
def gS (v : Option Nat) (K : Option Nat → Prop) : Prop := K v
def tw (h : Hp) (r : Option Nat) (ci : Nat) (K : Nat → Prop) : Prop := ∃ a fs, r = some a ∧ h a = some (true, .inr (ci, fs)) ∧ K a
theorem gS_e {v : Option Nat} {K : Option Nat → Prop} (hf : gS v K) : ∃ r, r = v ∧ K r := ⟨_, rfl, hf⟩
section EL
variable {h : Hp} {r : Option Nat} {a ci kf t : Nat} {i x : Int32} {j : Int64} {v : Value} {y : Option Nat} {P0 : Prop} {P1 : Nat → Prop} {PI : Int32 → Prop} {PR : Option Nat → Prop} {PF : UInt32 → Prop} {PL : Int64 → Prop} {PH : Hp → Prop}
theorem rv_s (hf : rv h r ci P0) : ∃ a, r = some a := by obtain ⟨a, _, _, e, _⟩ := hf; exact ⟨a, e⟩
theorem rv_e (hf : rv h (some a) ci P0) : ∃ w fs, h a = some (w, .inr (ci, fs)) ∧ P0 := by obtain ⟨b, w, fs, e, q⟩ := hf; cases e; exact ⟨w, fs, q⟩
theorem gI_s (hf : gI h r ci kf PI) : ∃ a, r = some a := by obtain ⟨a, _, _, _, e, _⟩ := hf; exact ⟨a, e⟩
theorem gI_e (hf : gI h (some a) ci kf PI) : ∃ w fs x, h a = some (w, .inr (ci, fs)) ∧ fs[kf]? = some (.int x) ∧ PI x := by obtain ⟨b, w, fs, x, e, q⟩ := hf; cases e; exact ⟨w, fs, x, q⟩
theorem gR_s (hf : gR h r ci kf PR) : ∃ a, r = some a := by obtain ⟨a, _, _, _, e, _⟩ := hf; exact ⟨a, e⟩
theorem gR_e (hf : gR h (some a) ci kf PR) : ∃ w fs x, h a = some (w, .inr (ci, fs)) ∧ fs[kf]? = some (va_rf x) ∧ PR x := by obtain ⟨b, w, fs, x, e, q⟩ := hf; cases e; exact ⟨w, fs, x, q⟩
theorem gF_s (hf : gF h r ci kf PF) : ∃ a, r = some a := by obtain ⟨a, _, _, _, e, _⟩ := hf; exact ⟨a, e⟩
theorem gF_e (hf : gF h (some a) ci kf PF) : ∃ w fs x, h a = some (w, .inr (ci, fs)) ∧ fs[kf]? = some (.float x) ∧ PF x := by obtain ⟨b, w, fs, x, e, q⟩ := hf; cases e; exact ⟨w, fs, x, q⟩
theorem pF_s (hf : pF h r ci kf v PH) : ∃ a, r = some a := by obtain ⟨a, _, e, _⟩ := hf; exact ⟨a, e⟩
theorem pF_e (hf : pF h (some a) ci kf v PH) : ∃ fs, h a = some (true, .inr (ci, fs)) ∧ PH (hs h a (true, .inr (ci, fs.set kf v))) := by obtain ⟨b, fs, e, q⟩ := hf; cases e; exact ⟨fs, q⟩
theorem aL_s (hf : aL h r PI) : ∃ a, r = some a := by obtain ⟨a, _, _, _, e, _⟩ := hf; exact ⟨a, e⟩
theorem aL_e (hf : aL h (some a) PI) : ∃ w t x, h a = some (w, .inl (t, x)) ∧ ∃ i, i = Int32.ofNat x.1 ∧ PI i := by obtain ⟨b, w, t, x, e, q1, q2⟩ := hf; cases e; exact ⟨w, t, x, q1, _, rfl, q2⟩
theorem aI_s (hf : aI h r t i PI) : ∃ a, r = some a := by obtain ⟨a, _, _, _, e, _⟩ := hf; exact ⟨a, e⟩
theorem aI_e (hf : aI h (some a) t i PI) : ∃ w N f, h a = some (w, .inl (t, N, .inl f)) ∧ vp_in i N ∧ ∃ z, z = f i.toNatClampNeg ∧ PI z := by obtain ⟨b, w, N, f, e, q1, q2, q3⟩ := hf; cases e; exact ⟨w, N, f, q1, q2, _, rfl, q3⟩
theorem aJ_s (hf : aJ h r t i PL) : ∃ a, r = some a := by obtain ⟨a, _, _, _, e, _⟩ := hf; exact ⟨a, e⟩
theorem aJ_e (hf : aJ h (some a) t i PL) : ∃ w N f, h a = some (w, .inl (t, N, .inr (.inl f))) ∧ vp_in i N ∧ ∃ z, z = f i.toNatClampNeg ∧ PL z := by obtain ⟨b, w, N, f, e, q1, q2, q3⟩ := hf; cases e; exact ⟨w, N, f, q1, q2, _, rfl, q3⟩
theorem aQ_s (hf : aQ h r i PR) : ∃ a, r = some a := by obtain ⟨a, _, _, _, _, e, _⟩ := hf; exact ⟨a, e⟩
theorem aQ_e (hf : aQ h (some a) i PR) : ∃ w t N f, h a = some (w, .inl (t, N, .inr (.inr (.inr (.inr f))))) ∧ (AT t).isReference = true ∧ vp_in i N ∧ ∃ z, z = f i.toNatClampNeg ∧ PR z := by obtain ⟨b, w, t, N, f, e, q1, q2, q3, q4⟩ := hf; cases e; exact ⟨w, t, N, f, q1, q2, q3, _, rfl, q4⟩
theorem sI_s (hf : sI h r i x PH) : ∃ a, r = some a := by obtain ⟨a, _, _, e, _⟩ := hf; exact ⟨a, e⟩
theorem sI_e (hf : sI h (some a) i x PH) : ∃ N f, h a = some (true, .inl (0, N, .inl f)) ∧ vp_in i N ∧ PH (hs h a (true, .inl (0, N, .inl (upd f i.toNatClampNeg x)))) := by obtain ⟨b, N, f, e, q⟩ := hf; cases e; exact ⟨N, f, q⟩
theorem sB_s (hf : sB h r i x PH) : ∃ a, r = some a := by obtain ⟨a, _, _, e, _⟩ := hf; exact ⟨a, e⟩
theorem sB_e (hf : sB h (some a) i x PH) : ∃ N f, h a = some (true, .inl (1, N, .inl f)) ∧ vp_in i N ∧ PH (hs h a (true, .inl (1, N, .inl (upd f i.toNatClampNeg (vp_nar .byte x))))) := by obtain ⟨b, N, f, e, q⟩ := hf; cases e; exact ⟨N, f, q⟩
theorem sJ_s (hf : sJ h r i j PH) : ∃ a, r = some a := by obtain ⟨a, _, _, e, _⟩ := hf; exact ⟨a, e⟩
theorem sJ_e (hf : sJ h (some a) i j PH) : ∃ N f, h a = some (true, .inl (2, N, .inr (.inl f))) ∧ vp_in i N ∧ PH (hs h a (true, .inl (2, N, .inr (.inl (vp_updL f i.toNatClampNeg j))))) := by obtain ⟨b, N, f, e, q⟩ := hf; cases e; exact ⟨N, f, q⟩
theorem sQ_s (hf : sQ h r i y PH) : ∃ a, r = some a := by obtain ⟨a, _, _, _, e, _⟩ := hf; exact ⟨a, e⟩
theorem sQ_e (hf : sQ h (some a) i y PH) : ∃ t N f, h a = some (true, .inl (t, N, .inr (.inr (.inr (.inr f))))) ∧ (∃ D, AT t = .object D) ∧ vp_in i N ∧ (∀ b, y = some b → ∃ w ci fs, h b = some (w, .inr (ci, fs)) ∧ cOK ci t) ∧ PH (hs h a (true, .inl (t, N, .inr (.inr (.inr (.inr (va_up f i.toNatClampNeg y))))))) := by obtain ⟨b, t, N, f, e, q⟩ := hf; cases e; exact ⟨t, N, f, q⟩
theorem tw_s (hf : tw h r ci P1) : ∃ a, r = some a := by obtain ⟨a, _, e, _⟩ := hf; exact ⟨a, e⟩
theorem tw_e (hf : tw h (some a) ci P1) : ∃ fs, h a = some (true, .inr (ci, fs)) ∧ P1 a := by obtain ⟨b, fs, e, q1, q2⟩ := hf; cases e; exact ⟨fs, q1, q2⟩
end EL
section KK
variable {G : Gt} {E : Ev} {Y : Yt} {cc : ByteArray} {nL : Nat} {Q : State → Prop} {k n pc : Nat} {lv : List (Nat × Value)} {rest : List Value}
theorem kk_I {K : Int32 → Hp → Prop} (kk : ∀ (r : Int32) (h' : Hp), K r h' → V G E Y cc nL Q h' k n pc lv (.int r :: rest)) : ∀ (v : Option Value) (h' : Hp), kI K v h' → V G E Y cc nL Q h' k n pc lv (v.toList ++ rest) := fun v h' ⟨r, e, q⟩ => by subst e; exact kk r h' q
theorem kk_R {K : Option Nat → Hp → Prop} (kk : ∀ (r : Option Nat) (h' : Hp), K r h' → V G E Y cc nL Q h' k n pc lv (va_rf r :: rest)) : ∀ (v : Option Value) (h' : Hp), kR K v h' → V G E Y cc nL Q h' k n pc lv (v.toList ++ rest) := fun v h' ⟨r, e, q⟩ => by subst e; exact kk r h' q
theorem kk_L {K : Int64 → Hp → Prop} (kk : ∀ (r : Int64) (h' : Hp), K r h' → V G E Y cc nL Q h' k n pc lv (.long r :: rest)) : ∀ (v : Option Value) (h' : Hp), kL K v h' → V G E Y cc nL Q h' k n pc lv (v.toList ++ rest) := fun v h' ⟨r, e, q⟩ => by subst e; exact kk r h' q
theorem kk_F {K : UInt32 → Hp → Prop} (kk : ∀ (r : UInt32) (h' : Hp), K r h' → V G E Y cc nL Q h' k n pc lv (.float r :: rest)) : ∀ (v : Option Value) (h' : Hp), kF K v h' → V G E Y cc nL Q h' k n pc lv (v.toList ++ rest) := fun v h' ⟨r, e, q⟩ => by subst e; exact kk r h' q
theorem kk_D {K : UInt64 → Hp → Prop} (kk : ∀ (r : UInt64) (h' : Hp), K r h' → V G E Y cc nL Q h' k n pc lv (.double r :: rest)) : ∀ (v : Option Value) (h' : Hp), kD K v h' → V G E Y cc nL Q h' k n pc lv (v.toList ++ rest) := fun v h' ⟨r, e, q⟩ => by subst e; exact kk r h' q
theorem kk_V {K : Hp → Prop} (kk : ∀ (h' : Hp), K h' → V G E Y cc nL Q h' k n pc lv rest) : ∀ (v : Option Value) (h' : Hp), kV K v h' → V G E Y cc nL Q h' k n pc lv (v.toList ++ rest) := fun v h' ⟨e, q⟩ => by subst e; exact kk h' q
end KK
def dI (G : Gt) (Y : Yt) (cz : ByteArray) (nz : Nat) (args : List Value) (h : Hp) (k n : Nat) (K : Int32 → Hp → Nat → Nat → Prop) (X : Nat → Nat → Hp → Prop) : Prop := ∃ mc ms, mc ≤ k ∧ ms ≤ n ∧ MM G Y cz nz mc ms args h (kI fun r h' => K r h' (k - mc) (n - ms)) X
def dR (G : Gt) (Y : Yt) (cz : ByteArray) (nz : Nat) (args : List Value) (h : Hp) (k n : Nat) (K : Option Nat → Hp → Nat → Nat → Prop) (X : Nat → Nat → Hp → Prop) : Prop := ∃ mc ms, mc ≤ k ∧ ms ≤ n ∧ MM G Y cz nz mc ms args h (kR fun r h' => K r h' (k - mc) (n - ms)) X
def dF (G : Gt) (Y : Yt) (cz : ByteArray) (nz : Nat) (args : List Value) (h : Hp) (k n : Nat) (K : UInt32 → Hp → Nat → Nat → Prop) (X : Nat → Nat → Hp → Prop) : Prop := ∃ mc ms, mc ≤ k ∧ ms ≤ n ∧ MM G Y cz nz mc ms args h (kF fun r h' => K r h' (k - mc) (n - ms)) X
def dD (G : Gt) (Y : Yt) (cz : ByteArray) (nz : Nat) (args : List Value) (h : Hp) (k n : Nat) (K : UInt64 → Hp → Nat → Nat → Prop) (X : Nat → Nat → Hp → Prop) : Prop := ∃ mc ms, mc ≤ k ∧ ms ≤ n ∧ MM G Y cz nz mc ms args h (kD fun r h' => K r h' (k - mc) (n - ms)) X
def dL (G : Gt) (Y : Yt) (cz : ByteArray) (nz : Nat) (args : List Value) (h : Hp) (k n : Nat) (K : Int64 → Hp → Nat → Nat → Prop) (X : Nat → Nat → Hp → Prop) : Prop := ∃ mc ms, mc ≤ k ∧ ms ≤ n ∧ MM G Y cz nz mc ms args h (kL fun r h' => K r h' (k - mc) (n - ms)) X
def dV (G : Gt) (Y : Yt) (cz : ByteArray) (nz : Nat) (args : List Value) (h : Hp) (k n : Nat) (K : Hp → Nat → Nat → Prop) (X : Nat → Nat → Hp → Prop) : Prop := ∃ mc ms, mc ≤ k ∧ ms ≤ n ∧ MM G Y cz nz mc ms args h (kV fun h' => K h' (k - mc) (n - ms)) X
def dRx (G : Gt) (Y : Yt) (cz : ByteArray) (nz : Nat) (args : List Value) (h : Hp) (k n : Nat) (K : Option Nat → Hp → Nat → Nat → Prop) (X : Nat → Nat → Hp → Nat → Nat → Prop) : Prop := ∃ mc ms, mc ≤ k ∧ ms ≤ n ∧ MM G Y cz nz mc ms args h (kR fun r h' => K r h' (k - mc) (n - ms)) (fun c q h' => X c q h' (k - mc) (n - ms))
def dIx (G : Gt) (Y : Yt) (cz : ByteArray) (nz : Nat) (args : List Value) (h : Hp) (k n : Nat) (K : Int32 → Hp → Nat → Nat → Prop) (X : Nat → Nat → Hp → Nat → Nat → Prop) : Prop := ∃ mc ms, mc ≤ k ∧ ms ≤ n ∧ MM G Y cz nz mc ms args h (kI fun r h' => K r h' (k - mc) (n - ms)) (fun c q h' => X c q h' (k - mc) (n - ms))
theorem rf_fit (D : String) (r : Option Nat) : fits (.object D) (va_rf r) = true := by cases r <;> rfl
theorem rf_nar (D : String) (r : Option Nat) : narrow (.object D) (va_rf r) = va_rf r := by cases r <;> rfl
theorem rf_fitA (D : FieldType) (r : Option Nat) : fits (.array D) (va_rf r) = true := by cases r <;> rfl
theorem rf_narA (D : FieldType) (r : Option Nat) : narrow (.array D) (va_rf r) = va_rf r := by cases r <;> rfl
theorem lk_no {ps : List (Int × Int)} {d x : Int} (h : ∀ q ∈ ps, x ≠ q.1) : Op.lookupswitch.offset ps d x = d := by
  induction ps with
  | nil => rfl
  | cons q l ih =>
    obtain ⟨a, o⟩ := q
    show (if a = x then o else Op.lookupswitch.offset l d x) = d
    rw [if_neg (fun e => h (a, o) List.mem_cons_self e.symm)]
    exact ih fun q hq => h q (List.mem_cons_of_mem _ hq)
theorem V.addK0 {G : Gt} {E : Ev} {Y : Yt} {cc : ByteArray} {nL : Nat} {Q : State → Prop} {h : Hp} {k n pc : Nat} {lv : List (Nat × Value)} {st : List Value} (kk : V G E Y cc nL Q h (k + 0) n pc lv st) : V G E Y cc nL Q h k n pc lv st := kk
theorem V.addN0 {G : Gt} {E : Ev} {Y : Yt} {cc : ByteArray} {nL : Nat} {Q : State → Prop} {h : Hp} {k n pc : Nat} {lv : List (Nat × Value)} {st : List Value} (kk : V G E Y cc nL Q h k (n + 0) pc lv st) : V G E Y cc nL Q h k n pc lv st := kk
section RW
variable {G : Gt} {E : Ev} {Y : Yt} {cc : ByteArray} {nL : Nat} {Q : State → Prop} {h : Hp} {k n pc : Nat} {lv : List (Nat × Value)} {st : List Value}
theorem V.weakN {N b : Nat} (hb : N ≤ b) (kk : V G E Y cc nL Q h k (n + N) pc lv st) : V G E Y cc nL Q h k (n + b) pc lv st := V.weak kk (Nat.le_refl _) (Nat.add_le_add_left hb _)
theorem v_ifnullR {x : Nat} {off : Int} (hd : decode cc pc = .ok (.ifnull off, 3)) (kk : V G E Y cc nL Q h k n (pc + 3) lv st) : V G E Y cc nL Q h k n pc lv (.ref x :: st) := V.pure (fun _ _ _ _ _ hx hb _ w => lv_ifnull hx hb hd w) kk
theorem v_ifnonnullR {x : Nat} {off : Int} (tgt : Nat) (hd : decode cc pc = .ok (.ifnonnull off, 3)) (ht : (pc : Int) + off = (tgt : Int)) (kk : V G E Y cc nL Q h k n tgt lv st) : V G E Y cc nL Q h k n pc lv (.ref x :: st) := V.pure (fun _ _ _ _ _ hx hb _ w => lv_ifnonnull hx hb hd ht w) kk
theorem v_ifnullN {off : Int} (tgt : Nat) (hd : decode cc pc = .ok (.ifnull off, 3)) (ht : (pc : Int) + off = (tgt : Int)) (kk : V G E Y cc nL Q h k n tgt lv st) : V G E Y cc nL Q h k n pc lv (.null :: st) := V.pure (fun _ _ _ _ _ hx hb _ w => lv_ifnullN hx hb hd ht w) kk
theorem v_ifnonnullN {off : Int} (hd : decode cc pc = .ok (.ifnonnull off, 3)) (kk : V G E Y cc nL Q h k n (pc + 3) lv st) : V G E Y cc nL Q h k n pc lv (.null :: st) := V.pure (fun _ _ _ _ _ hx hb _ w => lv_ifnonnullN hx hb hd w) kk
theorem v_tableAt {dflt lo hi : Int} {offs : Array Int} {len : Nat} {x v : Int32} {off : Int} (tgt : Nat) (hd : decode cc pc = .ok (.tableswitch dflt lo hi offs, len)) (hx : x = v) (h1 : ¬ v.toInt < lo) (h2 : ¬ hi < v.toInt) (ho : offs[(v.toInt - lo).toNat]? = some off) (ht : (pc : Int) + off = (tgt : Int)) (kk : V G E Y cc nL Q h k n tgt lv st) : V G E Y cc nL Q h k n pc lv (.int x :: st) := by subst hx; exact v_tableIn tgt hd h1 h2 ho ht kk
theorem v_fmul {x y : UInt32} (hd : decode cc pc = .ok (.fmul, 1)) (hz : vf_n32 (FP.fmul x y)) (kk : V G E Y cc nL Q h k n (pc + 1) lv (.float (FP.fmul x y) :: st)) : V G E Y cc nL Q h k n pc lv (.float y :: .float x :: st) := V.pure (fun _ _ _ _ _ hx hb _ w => lv_fmul hx hb hd hz w) kk
theorem v_fcmp {x y : UInt32} {op : CmpOp} (hd : decode cc pc = .ok (.fcmp op, 1)) (kk : V G E Y cc nL Q h k n (pc + 1) lv (.int (Op.cmpValue (FP.fcmp x y) op) :: st)) : V G E Y cc nL Q h k n pc lv (.float y :: .float x :: st) := V.pure (fun _ _ _ _ _ hx hb _ w => lv_fcmp hx hb hd w) kk
theorem v_f2i {x : UInt32} (hd : decode cc pc = .ok (.f2i, 1)) (kk : V G E Y cc nL Q h k n (pc + 1) lv (.int (FP.f2i x) :: st)) : V G E Y cc nL Q h k n pc lv (.float x :: st) := V.pure (fun _ _ _ _ _ hx hb _ w => lv_f2i hx hb hd w) kk
theorem v_fload_n {j : Fin 4} {i : Nat} {x : UInt32} (hd : decode cc pc = .ok (.fload_n j, 1)) (hi : (j : Nat) = i) (hg : lget i lv = some (.float x)) (kk : V G E Y cc nL Q h k n (pc + 1) lv (.float x :: st)) : V G E Y cc nL Q h k n pc lv st := V.pure (fun _ _ _ _ _ hx hb hl w => lv_fload_n hx hb hd hi (hl.1.2.2 _ (lget_mem hg)) w) kk
theorem v_fload {i : Nat} {x : UInt32} (hd : decode cc pc = .ok (.fload i, 2)) (hg : lget i lv = some (.float x)) (kk : V G E Y cc nL Q h k n (pc + 2) lv (.float x :: st)) : V G E Y cc nL Q h k n pc lv st := V.pure (fun _ _ _ _ _ hx hb hl w => lv_fload hx hb hd (hl.1.2.2 _ (lget_mem hg)) w) kk
theorem v_fstore_n {j : Fin 4} {i : Nat} {x : UInt32} {lv' : List (Nat × Value)} (hd : decode cc pc = .ok (.fstore_n j, 1)) (hi : (j : Nat) = i) (hi2 : i < nL) (ho : lord lv = true) (hl : lset i (.float x) lv = lv') (kk : V G E Y cc nL Q h k n (pc + 1) lv' st) : V G E Y cc nL Q h k n pc lv (.float x :: st) := fun C H locs cells slots ls a1 a2 a3 a4 a5 a6 => lv_fstore_n C.1 C.2.1 hd hi a6.1 hi2 rfl fun ls' h' => kk C H locs cells slots ls' a1 a2 a3 a4 a5 (by rw [← hl]; exact lvh_set a6.2 rfl ho h')
theorem v_fstore {i : Nat} {x : UInt32} {lv' : List (Nat × Value)} (hd : decode cc pc = .ok (.fstore i, 2)) (hi2 : i < nL) (ho : lord lv = true) (hl : lset i (.float x) lv = lv') (kk : V G E Y cc nL Q h k n (pc + 2) lv' st) : V G E Y cc nL Q h k n pc lv (.float x :: st) := fun C H locs cells slots ls a1 a2 a3 a4 a5 a6 => lv_fstore C.1 C.2.1 hd a6.1 hi2 rfl fun ls' h' => kk C H locs cells slots ls' a1 a2 a3 a4 a5 (by rw [← hl]; exact lvh_set a6.2 rfl ho h')
end RW
