/-! WHAT THE CALLS DO: the maze after, and the answer -/
set_option maxRecDepth 100000
def upN {α : Type} (f : Nat → α) (i : Nat) (x : α) : Nat → α := fun j => if j = i then x else f j
theorem upN_s {α : Type} {f : Nat → α} {i : Nat} {x : α} : upN f i x i = x := if_pos rfl
theorem upN_n {α : Type} {f : Nat → α} {i j : Nat} {x : α} (h : j ≠ i) : upN f i x j = f j := if_neg h
def cnt (p : Nat → Prop) [DecidablePred p] : Nat → Nat
  | 0 => 0
  | n + 1 => cnt p n + if p n then 1 else 0
theorem cnt_le (p : Nat → Prop) [DecidablePred p] (n : Nat) : cnt p n ≤ n := by
  induction n with
  | zero => exact Nat.le_refl _
  | succ n ih => show cnt p n + _ ≤ _; split <;> omega
def sm (f : Nat → Nat) : Nat → Nat
  | 0 => 0
  | n + 1 => sm f n + f n
def fnd (p : Nat → Prop) [DecidablePred p] (n : Nat) : Option Nat := (List.range n).find? (fun d => decide (p d))
theorem fnd_s {p : Nat → Prop} [DecidablePred p] {n d : Nat} (hd : d < n) (hp : p d) (h : ∀ j, j < d → ¬ p j) : fnd p n = some d := by
  unfold fnd
  rw [List.find?_range_eq_some]
  exact ⟨by simpa using hp, by simpa using hd, fun j hj => by simpa using h j hj⟩
theorem fnd_n {p : Nat → Prop} [DecidablePred p] {n : Nat} (h : ∀ j, j < n → ¬ p j) : fnd p n = none := by
  unfold fnd
  rw [List.find?_eq_none]
  intro x hx
  simpa using h x (List.mem_range.mp hx)
theorem fnd_is {p : Nat → Prop} [DecidablePred p] {n d : Nat} (h : fnd p n = some d) : d < n ∧ p d := by
  unfold fnd at h
  rw [List.find?_range_eq_some] at h
  exact ⟨by simpa using h.2.1, by simpa using h.1⟩
/-! the changes -/
def sRoom (M : Mz) (o : Nat) : Mz := ((z_nR M + 1, z_nD M), upN (z_oil M) (z_nR M) o, upN (z_key M) (z_nR M) (fun _ => 0), M.2.2.2)
def mkDr (a b kd : Nat) (co : Int32) : Dr := (min a b, max a b, kd, co, if co = -1 then 0 else 1, 0)
def sDoor (M : Mz) (dr : Dr) : Mz := ((z_nR M, z_nD M + 1), z_oil M, z_key M, upN (z_dr M) (z_nD M) dr, M.2.2.2.2)
def sKey (M : Mz) (r c v : Nat) : Mz := (M.1, z_oil M, upN (z_key M) r (upN (z_key M r) c v), M.2.2.2)
def sLaid (M : Mz) : Mz := (M.1, z_oil M, z_key M, z_dr M, z_hd M, z_at M, z_st M, z_la M + 1, z_us M, z_go M)
def sOil (M : Mz) (r v : Nat) : Mz := (M.1, upN (z_oil M) r v, M.2.2)
def sBurn (M : Mz) (n : Nat) : Mz := (M.1, (fun r => z_oil M r - n), z_key M, z_dr M, z_hd M, z_at M, z_st M + n, z_la M, z_us M, z_go M)
def out (M : Mz) (n : Nat) : Nat := cnt (fun r => 0 < z_oil M r ∧ z_oil M r ≤ n) (z_nR M)
def sSet (M : Mz) (d : Nat) (dr : Dr) : Mz := (M.1, z_oil M, z_key M, upN (z_dr M) d dr, M.2.2.2.2)
def sAt (M : Mz) (a : Nat) : Mz := (M.1, z_oil M, z_key M, z_dr M, z_hd M, a, z_st M, z_la M, z_us M, z_go M + 1)
def sHand (M : Mz) (c v u : Nat) : Mz := (M.1, z_oil M, z_key M, z_dr M, upN (z_hd M) c v, z_at M, z_st M, z_la M, z_us M + u, z_go M)
def d_gone (d : Dr) : Dr := (d_lo d, d_hi d, d_kd d, d_co d, d_sh d, d_go d + 1)
def d_open (d : Dr) : Dr := (d_lo d, d_hi d, d_kd d, d_co d, 0, d_go d)
/-! the answers: a code alone; refused with a reason and a detail; done -/
abbrev Out : Type := Int32 ⊕ (Int32 × Int32) ⊕ (Int32 × Mz)
def oB (v : Int32) : Out := .inl v
def oF (a b : Int32) : Out := .inr (.inl (a, b))
def oD (v : Int32) (M : Mz) : Out := .inr (.inr (v, M))
def o_ref (O : Ou) (a b : Int32) : Ou := (O.1, O.2.1, O.2.2.1, (a, b), O.2.2.2.2)
def o_new (O : Ou) (M : Mz) : Ou := (M, (pushO O O.1).2)
def apO (O : Ou) (u : Out) : Int32 × Ou := match u with
  | .inl v => (v, O)
  | .inr (.inl (a, b)) => (-1014, o_ref O a b)
  | .inr (.inr (v, M)) => (v, o_new O M)
def nN (x : Int32) : Nat := x.toNatClampNeg
abbrev inn (x : Int32) (lo hi : Int) : Prop := lo ≤ x.toInt ∧ x.toInt ≤ hi
def betw (M : Mz) (a b : Nat) : Option Nat := fnd (fun d => d_lo (z_dr M d) = min a b ∧ d_hi (z_dr M d) = max a b) (z_nD M)
def opRoom (M : Mz) (x : Int32) : Out := if inn x 0 50 then (if z_nR M = 10 then oF 1 10 else oD (nI (z_nR M)) (sRoom M (nN x))) else oB (-1012)
def opDoor (M : Mz) (a b kd co : Int32) : Out := if ix a (z_nR M) ∧ ix b (z_nR M) then (if inn kd 0 2 ∧ inn co (-1) 2 then (if a = b then oF 2 a else match betw M (nN a) (nN b) with
  | some d => oF 3 (nI d)
  | none => if z_nD M = 16 then oF 1 16 else oD (nI (z_nD M)) (sDoor M (mkDr (nN a) (nN b) (nN kd) co))) else oB (-1012)) else oB (-1011)
def opKey (M : Mz) (r c : Int32) : Out := if ix r (z_nR M) then (if ix c 3 then (if z_key M (nN r) (nN c) = 9 then oF 10 10 else oD (nI (z_key M (nN r) (nN c) + 1)) (sLaid (sKey M (nN r) (nN c) (z_key M (nN r) (nN c) + 1)))) else oB (-1012)) else oB (-1011)
def opOil (M : Mz) (r o : Int32) : Out := if ix r (z_nR M) then (if inn o 1 50 then (if z_oil M (nN r) + nN o ≤ 50 then oD (nI (z_oil M (nN r) + nN o)) (sOil M (nN r) (z_oil M (nN r) + nN o)) else oF 10 (nI (z_oil M (nN r) + nN o))) else oB (-1012)) else oB (-1011)
def aGo (M : Mz) (d : Nat) : Mz := sSet (sAt (sBurn M (z_need M (z_at M))) (d_beh (z_dr M d) (z_at M))) d (d_gone (z_dr M d))
def opGo (M : Mz) (d : Int32) : Out := if ix d (z_nD M) then (if d_isAt (z_dr M (nN d)) (z_at M) then (if d_sh (z_dr M (nN d)) = 1 then oF 5 (d_co (z_dr M (nN d))) else if d_for (z_dr M (nN d)) (z_st M + z_need M (z_at M)) then oD (nI (d_beh (z_dr M (nN d)) (z_at M))) (aGo M (nN d)) else oF 6 (nI (z_st M + z_need M (z_at M)))) else oF 4 (nI (z_at M))) else oB (-1011)
def opRest (M : Mz) (n : Int32) : Out := if inn n 1 50 then (if z_nR M = 0 then oF 11 0 else oD (nI (out M (nN n))) (sBurn M (nN n))) else oB (-1012)
def opTake (M : Mz) (c : Int32) : Out := if ix c 3 then (if z_nR M = 0 then oF 11 0 else if z_key M (z_at M) (nN c) = 0 then oF 7 (nI (z_at M)) else if z_hd M (nN c) = 9 then oF 10 10 else oD (nI (z_hd M (nN c) + 1)) (sHand (sKey M (z_at M) (nN c) (z_key M (z_at M) (nN c) - 1)) (nN c) (z_hd M (nN c) + 1) 0)) else oB (-1012)
def opOpen (M : Mz) (d : Int32) : Out := if ix d (z_nD M) then (if d_isAt (z_dr M (nN d)) (z_at M) then (if d_sh (z_dr M (nN d)) = 0 then oF 9 d else if z_hd M (nN (d_co (z_dr M (nN d)))) < 2 then oF 8 (nI (z_hd M (nN (d_co (z_dr M (nN d)))))) else oD (nI (z_hd M (nN (d_co (z_dr M (nN d)))) - 2)) (sHand (sSet M (nN d) (d_open (z_dr M (nN d)))) (nN (d_co (z_dr M (nN d)))) (z_hd M (nN (d_co (z_dr M (nN d)))) - 2) 2)) else oF 4 (nI (z_at M))) else oB (-1011)
theorem nN_nI {n : Nat} (h : n < 2 ^ 31) : nN (nI n) = n := nI_clamp h
theorem inn_nI {a b n : Nat} (h : n < 2 ^ 31) : inn (nI n) a b ↔ a ≤ n ∧ n ≤ b := by unfold inn; rw [nI_toInt h]; omega
theorem inn_n {x : Int32} {b : Nat} (h0 : 0 ≤ x.toInt) (h : x.toInt ≤ b) : ∃ n, n ≤ b ∧ x = nI n := by
  obtain ⟨n, h1, e⟩ := ix_n (x := x) (n := b + 1) ⟨h0, by omega⟩
  exact ⟨n, by omega, e⟩
/-! the state keeps well, and how a row of ints follows -/
theorem wf_mono {M : Mz} {N N' : Nat} (hw : wf M N) (h : N ≤ N') : wf M N' := by
  obtain ⟨w1, w2, w3, w4, w5, w6, w7, w8, w9, w10⟩ := hw
  refine ⟨w1, w2, w3, fun d hd => ?_, w5, w6, by omega, by omega, by omega, by omega⟩
  obtain ⟨a, b, c, e, f, g⟩ := w4 d hd
  exact ⟨a, b, c, e, f, by omega⟩
theorem sRoom_wf {M : Mz} {N : Nat} {o : Nat} (hw : wf M N) (h : z_nR M < 10) (ho : o ≤ 50) : wf (sRoom M o) (N) := by
  obtain ⟨w1, w2, w3, w4, w5, w6, w7, w8, w9, w10⟩ := hw
  refine ⟨?_, ?_, ?_, ?_, ?_, ?_, ?_, ?_, ?_, ?_⟩
  · show z_nR M + 1 ≤ 10; omega
  · exact w2
  · intro r hr
    have hr : r < z_nR M + 1 := hr
    by_cases e : r = z_nR M
    · subst e
      refine ⟨?_, fun c hc => ?_⟩
      · show upN _ _ _ _ ≤ 50; rw [upN_s]; exact ho
      · show upN (α := Nat → Nat) _ _ _ _ c ≤ 9; rw [upN_s]; omega
    · refine ⟨?_, fun c hc => ?_⟩
      · show upN _ _ _ _ ≤ 50; rw [upN_n e]; exact (w3 r (by omega)).1
      · show upN (α := Nat → Nat) _ _ _ _ c ≤ 9; rw [upN_n e]; exact (w3 r (by omega)).2 c hc
  · intro d hd
    obtain ⟨a, b, c⟩ := w4 d hd
    exact ⟨a, by show _ < z_nR M + 1; exact Nat.lt_succ_of_lt b, c⟩
  · exact w5
  · left; show z_at M < z_nR M + 1; omega
  · exact w7
  · exact w8
  · exact w9
  · exact w10
theorem sRoom_g {M : Mz} {N : Nat} {g g' : Nat → Int32} {o : Nat} (hw : wf M N) (hg : gRep g M) (h : z_nR M < 10) (e0 : g' (0) = nI (z_nR M + 1)) (e1 : g' (10 + 4 * z_nR M) = nI o) (e2 : g' (2) = nI (z_at M)) (ee : ∀ j, j ≠ 0 → j ≠ 10 + 4 * z_nR M → j ≠ 2 → g' j = g j) : gRep g' (sRoom M o) := by
  obtain ⟨h0, h1, h2, h3, h4, h5, h6, h7, h8, h9, h10⟩ := hg
  have x1 := wf_nR hw
  have x2 := wf_nD hw
  refine ⟨?_, ?_, ?_, ?_, ?_, ?_, ?_, ?_, ?_, ?_, ?_⟩
  · exact e0
  · rw [ee _ (by omega) (by omega) (by omega)]; exact h1
  · rw [e2, if_neg (by show ¬ z_nR M + 1 = 0; omega)]; rfl
  · rw [ee _ (by omega) (by omega) (by omega)]; exact h3
  · intro c hc; rw [ee _ (by omega) (by omega) (by omega)]; exact h4 c hc
  · rw [ee _ (by omega) (by omega) (by omega)]; exact h5
  · rw [ee _ (by omega) (by omega) (by omega)]; exact h6
  · rw [ee _ (by omega) (by omega) (by omega)]; exact h7
  · intro r hr
    have hr : r < z_nR M + 1 := hr
    by_cases e : r = z_nR M
    · subst e
      refine ⟨?_, fun c hc => ?_⟩
      · show _ = nI (upN _ _ _ _); rw [upN_s]; exact e1
      · show _ = nI (upN (α := Nat → Nat) _ _ _ _ c); rw [upN_s, ee _ (by omega) (by omega) (by omega), h10 _ c (by omega) (by omega) hc]; rfl
    · refine ⟨?_, fun c hc => ?_⟩
      · show _ = nI (upN _ _ _ _); rw [upN_n e, ee _ (by omega) (by omega) (by omega)]; exact (h8 r (by omega)).1
      · show _ = nI (upN (α := Nat → Nat) _ _ _ _ c); rw [upN_n e, ee _ (by omega) (by omega) (by omega)]; exact (h8 r (by omega)).2 c hc
  · intro d hd
    have hd : d < z_nD M := hd
    rw [ee _ (by omega) (by omega) (by omega), ee _ (by omega) (by omega) (by omega), ee _ (by omega) (by omega) (by omega), ee _ (by omega) (by omega) (by omega), ee _ (by omega) (by omega) (by omega), ee _ (by omega) (by omega) (by omega)]; exact h9 d hd
  · intro r c hr hr2 hc
    have hr : z_nR M + 1 ≤ r := hr
    rw [ee _ (by omega) (by omega) (by omega)]; exact h10 r c (by omega) hr2 hc
theorem sDoor_wf {M : Mz} {N : Nat} {dr : Dr} (hw : wf M N) (h : z_nD M < 16) (hdr : d_lo dr < d_hi dr ∧ d_hi dr < z_nR M ∧ d_kd dr ≤ 2 ∧ ((d_co dr = -1 ∧ d_sh dr = 0) ∨ ∃ c, c < 3 ∧ d_co dr = nI c) ∧ d_sh dr ≤ 1 ∧ d_go dr ≤ N) : wf (sDoor M dr) (N) := by
  obtain ⟨w1, w2, w3, w4, w5, w6, w7, w8, w9, w10⟩ := hw
  refine ⟨?_, ?_, ?_, ?_, ?_, ?_, ?_, ?_, ?_, ?_⟩
  · exact w1
  · show z_nD M + 1 ≤ 16; omega
  · exact w3
  · intro d hd
    have hd : d < z_nD M + 1 := hd
    have goal : ∀ dd : Dr, dd = (if d = z_nD M then dr else z_dr M d) → (d_lo dd < d_hi dd ∧ d_hi dd < z_nR M ∧ d_kd dd ≤ 2 ∧ ((d_co dd = -1 ∧ d_sh dd = 0) ∨ ∃ c, c < 3 ∧ d_co dd = nI c) ∧ d_sh dd ≤ 1 ∧ d_go dd ≤ N) := by
      intro dd e
      by_cases e2 : d = z_nD M
      · rw [if_pos e2] at e; subst e; exact hdr
      · rw [if_neg e2] at e; subst e; exact w4 d (by omega)
    exact goal _ rfl
  · exact w5
  · exact w6
  · exact w7
  · exact w8
  · exact w9
  · exact w10
theorem sDoor_g {M : Mz} {N : Nat} {g g' : Nat → Int32} {dr : Dr} (hw : wf M N) (hg : gRep g M) (h : z_nD M < 16) (e0 : g' (1) = nI (z_nD M + 1)) (e1 : g' (50 + 6 * z_nD M) = nI (d_lo dr)) (e2 : g' (50 + 6 * z_nD M + 1) = nI (d_hi dr)) (e3 : g' (50 + 6 * z_nD M + 2) = nI (d_kd dr)) (e4 : g' (50 + 6 * z_nD M + 3) = d_co dr) (e5 : g' (50 + 6 * z_nD M + 4) = nI (d_sh dr)) (e6 : g' (50 + 6 * z_nD M + 5) = nI (d_go dr)) (ee : ∀ j, j ≠ 1 → j ≠ 50 + 6 * z_nD M → j ≠ 50 + 6 * z_nD M + 1 → j ≠ 50 + 6 * z_nD M + 2 → j ≠ 50 + 6 * z_nD M + 3 → j ≠ 50 + 6 * z_nD M + 4 → j ≠ 50 + 6 * z_nD M + 5 → g' j = g j) : gRep g' (sDoor M dr) := by
  obtain ⟨h0, h1, h2, h3, h4, h5, h6, h7, h8, h9, h10⟩ := hg
  have x1 := wf_nR hw
  have x2 := wf_nD hw
  refine ⟨?_, ?_, ?_, ?_, ?_, ?_, ?_, ?_, ?_, ?_, ?_⟩
  · rw [ee _ (by omega) (by omega) (by omega) (by omega) (by omega) (by omega) (by omega)]; exact h0
  · exact e0
  · rw [ee _ (by omega) (by omega) (by omega) (by omega) (by omega) (by omega) (by omega)]; exact h2
  · rw [ee _ (by omega) (by omega) (by omega) (by omega) (by omega) (by omega) (by omega)]; exact h3
  · intro c hc; rw [ee _ (by omega) (by omega) (by omega) (by omega) (by omega) (by omega) (by omega)]; exact h4 c hc
  · rw [ee _ (by omega) (by omega) (by omega) (by omega) (by omega) (by omega) (by omega)]; exact h5
  · rw [ee _ (by omega) (by omega) (by omega) (by omega) (by omega) (by omega) (by omega)]; exact h6
  · rw [ee _ (by omega) (by omega) (by omega) (by omega) (by omega) (by omega) (by omega)]; exact h7
  · intro r hr
    have hr : r < z_nR M := hr
    refine ⟨?_, fun c hc => ?_⟩
    · rw [ee _ (by omega) (by omega) (by omega) (by omega) (by omega) (by omega) (by omega)]; exact (h8 r hr).1
    · rw [ee _ (by omega) (by omega) (by omega) (by omega) (by omega) (by omega) (by omega)]; exact (h8 r hr).2 c hc
  · intro d hd
    have hd : d < z_nD M + 1 := hd
    have goal : ∀ dd : Dr, dd = (if d = z_nD M then dr else z_dr M d) → g' (50 + 6 * d) = nI (d_lo dd) ∧ g' (50 + 6 * d + 1) = nI (d_hi dd) ∧ g' (50 + 6 * d + 2) = nI (d_kd dd) ∧ g' (50 + 6 * d + 3) = d_co dd ∧ g' (50 + 6 * d + 4) = nI (d_sh dd) ∧ g' (50 + 6 * d + 5) = nI (d_go dd) := by
      intro dd e
      skip
      by_cases E : d = z_nD M
      · rw [if_pos E] at e; subst e; rw [E]; exact ⟨e1, e2, e3, e4, e5, e6⟩
      · rw [if_neg E] at e; subst e
        rw [ee _ (by omega) (by omega) (by omega) (by omega) (by omega) (by omega) (by omega), ee _ (by omega) (by omega) (by omega) (by omega) (by omega) (by omega) (by omega), ee _ (by omega) (by omega) (by omega) (by omega) (by omega) (by omega) (by omega), ee _ (by omega) (by omega) (by omega) (by omega) (by omega) (by omega) (by omega), ee _ (by omega) (by omega) (by omega) (by omega) (by omega) (by omega) (by omega), ee _ (by omega) (by omega) (by omega) (by omega) (by omega) (by omega) (by omega)]; exact h9 d (by omega)
    exact goal _ rfl
  · intro r c hr hr2 hc
    have hr : z_nR M ≤ r := hr
    rw [ee _ (by omega) (by omega) (by omega) (by omega) (by omega) (by omega) (by omega)]; exact h10 r c hr hr2 hc
theorem sKey_wf {M : Mz} {N : Nat} {r c v : Nat} (hw : wf M N) (hv : v ≤ 9) : wf (sKey M r c v) (N) := by
  obtain ⟨w1, w2, w3, w4, w5, w6, w7, w8, w9, w10⟩ := hw
  refine ⟨?_, ?_, ?_, ?_, ?_, ?_, ?_, ?_, ?_, ?_⟩
  · exact w1
  · exact w2
  · intro r2 hr
    have hr : r2 < z_nR M := hr
    refine ⟨(w3 r2 hr).1, fun c2 hc => ?_⟩
    show upN (α := Nat → Nat) _ _ _ _ c2 ≤ 9
    by_cases e : r2 = r
    · subst e
      rw [upN_s]
      by_cases e2 : c2 = c
      · subst e2; rw [upN_s]; exact hv
      · rw [upN_n e2]; exact (w3 r2 hr).2 c2 hc
    · rw [upN_n e]; exact (w3 r2 hr).2 c2 hc
  · exact w4
  · exact w5
  · exact w6
  · exact w7
  · exact w8
  · exact w9
  · exact w10
theorem sKey_g {M : Mz} {N : Nat} {g g' : Nat → Int32} {r c v : Nat} (hw : wf M N) (hg : gRep g M) (h : r < z_nR M) (hc : c < 3) (e0 : g' (10 + 4 * r + 1 + c) = nI v) (ee : ∀ j, j ≠ 10 + 4 * r + 1 + c → g' j = g j) : gRep g' (sKey M r c v) := by
  obtain ⟨h0, h1, h2, h3, h4, h5, h6, h7, h8, h9, h10⟩ := hg
  have x1 := wf_nR hw
  have x2 := wf_nD hw
  refine ⟨?_, ?_, ?_, ?_, ?_, ?_, ?_, ?_, ?_, ?_, ?_⟩
  · rw [ee _ (by omega)]; exact h0
  · rw [ee _ (by omega)]; exact h1
  · rw [ee _ (by omega)]; exact h2
  · rw [ee _ (by omega)]; exact h3
  · intro c hc; rw [ee _ (by omega)]; exact h4 c hc
  · rw [ee _ (by omega)]; exact h5
  · rw [ee _ (by omega)]; exact h6
  · rw [ee _ (by omega)]; exact h7
  · intro r2 hr
    have hr : r2 < z_nR M := hr
    refine ⟨?_, fun c2 hc2 => ?_⟩
    · rw [ee _ (by omega)]; exact (h8 r2 hr).1
    · show _ = nI (upN (α := Nat → Nat) _ _ _ _ c2)
      by_cases e : r2 = r
      · subst e
        rw [upN_s]
        by_cases e2 : c2 = c
        · subst e2; rw [upN_s]; exact e0
        · rw [upN_n e2, ee _ (by omega)]; exact (h8 r2 hr).2 c2 hc2
      · rw [upN_n e, ee _ (by omega)]; exact (h8 r2 hr).2 c2 hc2
  · intro d hd
    have hd : d < z_nD M := hd
    rw [ee _ (by omega), ee _ (by omega), ee _ (by omega), ee _ (by omega), ee _ (by omega), ee _ (by omega)]; exact h9 d hd
  · intro r c hr hr2 hc
    have hr : z_nR M ≤ r := hr
    rw [ee _ (by omega)]; exact h10 r c hr hr2 hc
theorem sLaid_wf {M : Mz} {N : Nat}  (hw : wf M N)  : wf (sLaid M ) (N + 1) := by
  obtain ⟨w1, w2, w3, w4, w5, w6, w7, w8, w9, w10⟩ := wf_mono hw (show N ≤ N + 1 by omega)
  refine ⟨?_, ?_, ?_, ?_, ?_, ?_, ?_, ?_, ?_, ?_⟩
  · exact w1
  · exact w2
  · exact w3
  · exact w4
  · exact w5
  · exact w6
  · exact w7
  · show z_la M + 1 ≤ N + 1; have := wf_la hw; omega
  · exact w9
  · exact w10
theorem sLaid_g {M : Mz} {N : Nat} {g g' : Nat → Int32}  (hw : wf M N) (hg : gRep g M)  (e0 : g' (7) = nI (z_la M + 1)) (ee : ∀ j, j ≠ 7 → g' j = g j) : gRep g' (sLaid M ) := by
  obtain ⟨h0, h1, h2, h3, h4, h5, h6, h7, h8, h9, h10⟩ := hg
  have x1 := wf_nR hw
  have x2 := wf_nD hw
  refine ⟨?_, ?_, ?_, ?_, ?_, ?_, ?_, ?_, ?_, ?_, ?_⟩
  · rw [ee _ (by omega)]; exact h0
  · rw [ee _ (by omega)]; exact h1
  · rw [ee _ (by omega)]; exact h2
  · rw [ee _ (by omega)]; exact h3
  · intro c hc; rw [ee _ (by omega)]; exact h4 c hc
  · exact e0
  · rw [ee _ (by omega)]; exact h6
  · rw [ee _ (by omega)]; exact h7
  · intro r hr
    have hr : r < z_nR M := hr
    refine ⟨?_, fun c hc => ?_⟩
    · rw [ee _ (by omega)]; exact (h8 r hr).1
    · rw [ee _ (by omega)]; exact (h8 r hr).2 c hc
  · intro d hd
    have hd : d < z_nD M := hd
    rw [ee _ (by omega), ee _ (by omega), ee _ (by omega), ee _ (by omega), ee _ (by omega), ee _ (by omega)]; exact h9 d hd
  · intro r c hr hr2 hc
    have hr : z_nR M ≤ r := hr
    rw [ee _ (by omega)]; exact h10 r c hr hr2 hc
theorem sOil_wf {M : Mz} {N : Nat} {r v : Nat} (hw : wf M N) (hv : v ≤ 50) : wf (sOil M r v) (N) := by
  obtain ⟨w1, w2, w3, w4, w5, w6, w7, w8, w9, w10⟩ := hw
  refine ⟨?_, ?_, ?_, ?_, ?_, ?_, ?_, ?_, ?_, ?_⟩
  · exact w1
  · exact w2
  · intro r2 hr
    have hr : r2 < z_nR M := hr
    refine ⟨?_, (w3 r2 hr).2⟩
    show upN _ _ _ _ ≤ 50
    by_cases e : r2 = r
    · subst e; rw [upN_s]; exact hv
    · rw [upN_n e]; exact (w3 r2 hr).1
  · exact w4
  · exact w5
  · exact w6
  · exact w7
  · exact w8
  · exact w9
  · exact w10
theorem sOil_g {M : Mz} {N : Nat} {g g' : Nat → Int32} {r v : Nat} (hw : wf M N) (hg : gRep g M) (h : r < z_nR M) (e0 : g' (10 + 4 * r) = nI v) (ee : ∀ j, j ≠ 10 + 4 * r → g' j = g j) : gRep g' (sOil M r v) := by
  obtain ⟨h0, h1, h2, h3, h4, h5, h6, h7, h8, h9, h10⟩ := hg
  have x1 := wf_nR hw
  have x2 := wf_nD hw
  refine ⟨?_, ?_, ?_, ?_, ?_, ?_, ?_, ?_, ?_, ?_, ?_⟩
  · rw [ee _ (by omega)]; exact h0
  · rw [ee _ (by omega)]; exact h1
  · rw [ee _ (by omega)]; exact h2
  · rw [ee _ (by omega)]; exact h3
  · intro c hc; rw [ee _ (by omega)]; exact h4 c hc
  · rw [ee _ (by omega)]; exact h5
  · rw [ee _ (by omega)]; exact h6
  · rw [ee _ (by omega)]; exact h7
  · intro r2 hr
    have hr : r2 < z_nR M := hr
    refine ⟨?_, fun c2 hc2 => ?_⟩
    · show _ = nI (upN _ _ _ _)
      by_cases e : r2 = r
      · subst e; rw [upN_s]; exact e0
      · rw [upN_n e, ee _ (by omega)]; exact (h8 r2 hr).1
    · rw [ee _ (by omega)]; exact (h8 r2 hr).2 c2 hc2
  · intro d hd
    have hd : d < z_nD M := hd
    rw [ee _ (by omega), ee _ (by omega), ee _ (by omega), ee _ (by omega), ee _ (by omega), ee _ (by omega)]; exact h9 d hd
  · intro r c hr hr2 hc
    have hr : z_nR M ≤ r := hr
    rw [ee _ (by omega)]; exact h10 r c hr hr2 hc
theorem sBurn_wf {M : Mz} {N : Nat} {n : Nat} (hw : wf M N)  : wf (sBurn M n) (N + n) := by
  obtain ⟨w1, w2, w3, w4, w5, w6, w7, w8, w9, w10⟩ := wf_mono hw (show N ≤ N + n by omega)
  refine ⟨?_, ?_, ?_, ?_, ?_, ?_, ?_, ?_, ?_, ?_⟩
  · exact w1
  · exact w2
  · intro r2 hr
    have hr : r2 < z_nR M := hr
    exact ⟨by show z_oil M r2 - n ≤ 50; have := (w3 r2 hr).1; omega, (w3 r2 hr).2⟩
  · exact w4
  · exact w5
  · exact w6
  · show z_st M + n ≤ N + n; have := wf_st hw; omega
  · exact w8
  · exact w9
  · exact w10
theorem sSet_wf {M : Mz} {N : Nat} {d : Nat} {dr : Dr} (hw : wf M N) (hdr : d_lo dr < d_hi dr ∧ d_hi dr < z_nR M ∧ d_kd dr ≤ 2 ∧ ((d_co dr = -1 ∧ d_sh dr = 0) ∨ ∃ c, c < 3 ∧ d_co dr = nI c) ∧ d_sh dr ≤ 1 ∧ d_go dr ≤ N + 1) : wf (sSet M d dr) (N + 1) := by
  obtain ⟨w1, w2, w3, w4, w5, w6, w7, w8, w9, w10⟩ := wf_mono hw (show N ≤ N + 1 by omega)
  refine ⟨?_, ?_, ?_, ?_, ?_, ?_, ?_, ?_, ?_, ?_⟩
  · exact w1
  · exact w2
  · exact w3
  · intro d2 hd
    have hd : d2 < z_nD M := hd
    have goal : ∀ dd : Dr, dd = (if d2 = d then dr else z_dr M d2) → (d_lo dd < d_hi dd ∧ d_hi dd < z_nR M ∧ d_kd dd ≤ 2 ∧ ((d_co dd = -1 ∧ d_sh dd = 0) ∨ ∃ c, c < 3 ∧ d_co dd = nI c) ∧ d_sh dd ≤ 1 ∧ d_go dd ≤ N + 1) := by
      intro dd e
      by_cases e2 : d2 = d
      · rw [if_pos e2] at e; subst e; exact hdr
      · rw [if_neg e2] at e; subst e; exact w4 d2 hd
    exact goal _ rfl
  · exact w5
  · exact w6
  · exact w7
  · exact w8
  · exact w9
  · exact w10
theorem sSet_g {M : Mz} {N : Nat} {g g' : Nat → Int32} {d : Nat} {dr : Dr} (hw : wf M N) (hg : gRep g M) (h : d < z_nD M) (e0 : g' (50 + 6 * d) = nI (d_lo dr)) (e1 : g' (50 + 6 * d + 1) = nI (d_hi dr)) (e2 : g' (50 + 6 * d + 2) = nI (d_kd dr)) (e3 : g' (50 + 6 * d + 3) = d_co dr) (e4 : g' (50 + 6 * d + 4) = nI (d_sh dr)) (e5 : g' (50 + 6 * d + 5) = nI (d_go dr)) (ee : ∀ j, j ≠ 50 + 6 * d → j ≠ 50 + 6 * d + 1 → j ≠ 50 + 6 * d + 2 → j ≠ 50 + 6 * d + 3 → j ≠ 50 + 6 * d + 4 → j ≠ 50 + 6 * d + 5 → g' j = g j) : gRep g' (sSet M d dr) := by
  obtain ⟨h0, h1, h2, h3, h4, h5, h6, h7, h8, h9, h10⟩ := hg
  have x1 := wf_nR hw
  have x2 := wf_nD hw
  refine ⟨?_, ?_, ?_, ?_, ?_, ?_, ?_, ?_, ?_, ?_, ?_⟩
  · rw [ee _ (by omega) (by omega) (by omega) (by omega) (by omega) (by omega)]; exact h0
  · rw [ee _ (by omega) (by omega) (by omega) (by omega) (by omega) (by omega)]; exact h1
  · rw [ee _ (by omega) (by omega) (by omega) (by omega) (by omega) (by omega)]; exact h2
  · rw [ee _ (by omega) (by omega) (by omega) (by omega) (by omega) (by omega)]; exact h3
  · intro c hc; rw [ee _ (by omega) (by omega) (by omega) (by omega) (by omega) (by omega)]; exact h4 c hc
  · rw [ee _ (by omega) (by omega) (by omega) (by omega) (by omega) (by omega)]; exact h5
  · rw [ee _ (by omega) (by omega) (by omega) (by omega) (by omega) (by omega)]; exact h6
  · rw [ee _ (by omega) (by omega) (by omega) (by omega) (by omega) (by omega)]; exact h7
  · intro r hr
    have hr : r < z_nR M := hr
    refine ⟨?_, fun c hc => ?_⟩
    · rw [ee _ (by omega) (by omega) (by omega) (by omega) (by omega) (by omega)]; exact (h8 r hr).1
    · rw [ee _ (by omega) (by omega) (by omega) (by omega) (by omega) (by omega)]; exact (h8 r hr).2 c hc
  · intro d2 hd
    have hd : d2 < z_nD M := hd
    have goal : ∀ dd : Dr, dd = (if d2 = d then dr else z_dr M d2) → g' (50 + 6 * d2) = nI (d_lo dd) ∧ g' (50 + 6 * d2 + 1) = nI (d_hi dd) ∧ g' (50 + 6 * d2 + 2) = nI (d_kd dd) ∧ g' (50 + 6 * d2 + 3) = d_co dd ∧ g' (50 + 6 * d2 + 4) = nI (d_sh dd) ∧ g' (50 + 6 * d2 + 5) = nI (d_go dd) := by
      intro dd e
      by_cases E : d2 = d
      · rw [if_pos E] at e; subst e; rw [E]; exact ⟨e0, e1, e2, e3, e4, e5⟩
      · rw [if_neg E] at e; subst e
        rw [ee _ (by omega) (by omega) (by omega) (by omega) (by omega) (by omega), ee _ (by omega) (by omega) (by omega) (by omega) (by omega) (by omega), ee _ (by omega) (by omega) (by omega) (by omega) (by omega) (by omega), ee _ (by omega) (by omega) (by omega) (by omega) (by omega) (by omega), ee _ (by omega) (by omega) (by omega) (by omega) (by omega) (by omega), ee _ (by omega) (by omega) (by omega) (by omega) (by omega) (by omega)]; exact h9 d2 hd
    exact goal _ rfl
  · intro r c hr hr2 hc
    have hr : z_nR M ≤ r := hr
    rw [ee _ (by omega) (by omega) (by omega) (by omega) (by omega) (by omega)]; exact h10 r c hr hr2 hc
theorem sAt_wf {M : Mz} {N : Nat} {a : Nat} (hw : wf M N) (ha : a < z_nR M) : wf (sAt M a) (N + 1) := by
  obtain ⟨w1, w2, w3, w4, w5, w6, w7, w8, w9, w10⟩ := wf_mono hw (show N ≤ N + 1 by omega)
  refine ⟨?_, ?_, ?_, ?_, ?_, ?_, ?_, ?_, ?_, ?_⟩
  · exact w1
  · exact w2
  · exact w3
  · exact w4
  · exact w5
  · left; exact ha
  · exact w7
  · exact w8
  · exact w9
  · show z_go M + 1 ≤ N + 1; have := wf_go hw; omega
theorem sAt_g {M : Mz} {N : Nat} {g g' : Nat → Int32} {a : Nat} (hw : wf M N) (hg : gRep g M) (ha : a < z_nR M) (e0 : g' (2) = nI a) (e1 : g' (9) = nI (z_go M + 1)) (ee : ∀ j, j ≠ 2 → j ≠ 9 → g' j = g j) : gRep g' (sAt M a) := by
  obtain ⟨h0, h1, h2, h3, h4, h5, h6, h7, h8, h9, h10⟩ := hg
  have x1 := wf_nR hw
  have x2 := wf_nD hw
  refine ⟨?_, ?_, ?_, ?_, ?_, ?_, ?_, ?_, ?_, ?_, ?_⟩
  · rw [ee _ (by omega) (by omega)]; exact h0
  · rw [ee _ (by omega) (by omega)]; exact h1
  · rw [e0, if_neg (by show ¬ z_nR M = 0; omega)]; rfl
  · rw [ee _ (by omega) (by omega)]; exact h3
  · intro c hc; rw [ee _ (by omega) (by omega)]; exact h4 c hc
  · rw [ee _ (by omega) (by omega)]; exact h5
  · rw [ee _ (by omega) (by omega)]; exact h6
  · exact e1
  · intro r hr
    have hr : r < z_nR M := hr
    refine ⟨?_, fun c hc => ?_⟩
    · rw [ee _ (by omega) (by omega)]; exact (h8 r hr).1
    · rw [ee _ (by omega) (by omega)]; exact (h8 r hr).2 c hc
  · intro d hd
    have hd : d < z_nD M := hd
    rw [ee _ (by omega) (by omega), ee _ (by omega) (by omega), ee _ (by omega) (by omega), ee _ (by omega) (by omega), ee _ (by omega) (by omega), ee _ (by omega) (by omega)]; exact h9 d hd
  · intro r c hr hr2 hc
    have hr : z_nR M ≤ r := hr
    rw [ee _ (by omega) (by omega)]; exact h10 r c hr hr2 hc
theorem sHand_wf {M : Mz} {N : Nat} {c v u : Nat} (hw : wf M N) (hv : v ≤ 9) : wf (sHand M c v u) (N + u) := by
  obtain ⟨w1, w2, w3, w4, w5, w6, w7, w8, w9, w10⟩ := wf_mono hw (show N ≤ N + u by omega)
  refine ⟨?_, ?_, ?_, ?_, ?_, ?_, ?_, ?_, ?_, ?_⟩
  · exact w1
  · exact w2
  · exact w3
  · exact w4
  · intro c2 hc
    show upN _ _ _ _ ≤ 9
    by_cases e : c2 = c
    · subst e; rw [upN_s]; exact hv
    · rw [upN_n e]; exact w5 c2 hc
  · exact w6
  · exact w7
  · exact w8
  · show z_us M + u ≤ N + u; have := wf_us hw; omega
  · exact w10
theorem sHand_g {M : Mz} {N : Nat} {g g' : Nat → Int32} {c v u : Nat} (hw : wf M N) (hg : gRep g M) (hc : c < 3) (e0 : g' (4 + c) = nI v) (e1 : g' (8) = nI (z_us M + u)) (ee : ∀ j, j ≠ 4 + c → j ≠ 8 → g' j = g j) : gRep g' (sHand M c v u) := by
  obtain ⟨h0, h1, h2, h3, h4, h5, h6, h7, h8, h9, h10⟩ := hg
  have x1 := wf_nR hw
  have x2 := wf_nD hw
  refine ⟨?_, ?_, ?_, ?_, ?_, ?_, ?_, ?_, ?_, ?_, ?_⟩
  · rw [ee _ (by omega) (by omega)]; exact h0
  · rw [ee _ (by omega) (by omega)]; exact h1
  · rw [ee _ (by omega) (by omega)]; exact h2
  · rw [ee _ (by omega) (by omega)]; exact h3
  · intro c2 hc2
    show _ = nI (upN _ _ _ _)
    by_cases e : c2 = c
    · subst e; rw [upN_s]; exact e0
    · rw [upN_n e, ee _ (by omega) (by omega)]; exact h4 c2 hc2
  · rw [ee _ (by omega) (by omega)]; exact h5
  · exact e1
  · rw [ee _ (by omega) (by omega)]; exact h7
  · intro r hr
    have hr : r < z_nR M := hr
    refine ⟨?_, fun c hc => ?_⟩
    · rw [ee _ (by omega) (by omega)]; exact (h8 r hr).1
    · rw [ee _ (by omega) (by omega)]; exact (h8 r hr).2 c hc
  · intro d hd
    have hd : d < z_nD M := hd
    rw [ee _ (by omega) (by omega), ee _ (by omega) (by omega), ee _ (by omega) (by omega), ee _ (by omega) (by omega), ee _ (by omega) (by omega), ee _ (by omega) (by omega)]; exact h9 d hd
  · intro r c hr hr2 hc
    have hr : z_nR M ≤ r := hr
    rw [ee _ (by omega) (by omega)]; exact h10 r c hr hr2 hc
