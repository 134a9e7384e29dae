/-! THE MATHEMATICAL STATE OF A MAZE -/
set_option maxRecDepth 100000
/-- a door: lower, upper, kind, colour, shut, times gone through -/
abbrev Dr : Type := Nat × Nat × Nat × Int32 × Nat × Nat
abbrev d_lo (d : Dr) : Nat := d.1
abbrev d_hi (d : Dr) : Nat := d.2.1
abbrev d_kd (d : Dr) : Nat := d.2.2.1
abbrev d_co (d : Dr) : Int32 := d.2.2.2.1
abbrev d_sh (d : Dr) : Nat := d.2.2.2.2.1
abbrev d_go (d : Dr) : Nat := d.2.2.2.2.2
/-- rooms, doors; oil of a room; its keys by colour; the doors; the hand; at, steps, laid, used, gone -/
abbrev Mz : Type := (Nat × Nat) × (Nat → Nat) × (Nat → Nat → Nat) × (Nat → Dr) × (Nat → Nat) × Nat × Nat × Nat × Nat × Nat
abbrev z_nR (M : Mz) : Nat := M.1.1
abbrev z_nD (M : Mz) : Nat := M.1.2
abbrev z_oil (M : Mz) : Nat → Nat := M.2.1
abbrev z_key (M : Mz) : Nat → Nat → Nat := M.2.2.1
abbrev z_dr (M : Mz) : Nat → Dr := M.2.2.2.1
abbrev z_hd (M : Mz) : Nat → Nat := M.2.2.2.2.1
abbrev z_at (M : Mz) : Nat := M.2.2.2.2.2.1
abbrev z_st (M : Mz) : Nat := M.2.2.2.2.2.2.1
abbrev z_la (M : Mz) : Nat := M.2.2.2.2.2.2.2.1
abbrev z_us (M : Mz) : Nat := M.2.2.2.2.2.2.2.2.1
abbrev z_go (M : Mz) : Nat := M.2.2.2.2.2.2.2.2.2
/-- what is always so; N bounds what only grows -/
def wf (M : Mz) (N : Nat) : Prop := z_nR M ≤ 10 ∧ z_nD M ≤ 16 ∧ (∀ r, r < z_nR M → z_oil M r ≤ 50 ∧ ∀ c, c < 3 → z_key M r c ≤ 9) ∧
  (∀ d, d < z_nD M → d_lo (z_dr M d) < d_hi (z_dr M d) ∧ d_hi (z_dr M d) < z_nR M ∧ d_kd (z_dr M d) ≤ 2 ∧ ((d_co (z_dr M d) = -1 ∧ d_sh (z_dr M d) = 0) ∨ ∃ c, c < 3 ∧ d_co (z_dr M d) = nI c) ∧ d_sh (z_dr M d) ≤ 1 ∧ d_go (z_dr M d) ≤ N) ∧
  (∀ c, c < 3 → z_hd M c ≤ 9) ∧ (z_at M < z_nR M ∨ (z_nR M = 0 ∧ z_at M = 0)) ∧ z_st M ≤ N ∧ z_la M ≤ N ∧ z_us M ≤ N ∧ z_go M ≤ N
def gRep (g : Nat → Int32) (M : Mz) : Prop := g 0 = nI (z_nR M) ∧ g 1 = nI (z_nD M) ∧ g 2 = (if z_nR M = 0 then -1 else nI (z_at M)) ∧ g 3 = nI (z_st M) ∧ (∀ c, c < 3 → g (4 + c) = nI (z_hd M c)) ∧ g 7 = nI (z_la M) ∧ g 8 = nI (z_us M) ∧ g 9 = nI (z_go M) ∧
  (∀ r, r < z_nR M → g (10 + 4 * r) = nI (z_oil M r) ∧ ∀ c, c < 3 → g (10 + 4 * r + 1 + c) = nI (z_key M r c)) ∧
  (∀ d, d < z_nD M → g (50 + 6 * d) = nI (d_lo (z_dr M d)) ∧ g (50 + 6 * d + 1) = nI (d_hi (z_dr M d)) ∧ g (50 + 6 * d + 2) = nI (d_kd (z_dr M d)) ∧ g (50 + 6 * d + 3) = d_co (z_dr M d) ∧ g (50 + 6 * d + 4) = nI (d_sh (z_dr M d)) ∧ g (50 + 6 * d + 5) = nI (d_go (z_dr M d))) ∧
  (∀ r c, z_nR M ≤ r → r < 10 → c < 3 → g (10 + 4 * r + 1 + c) = 0)
def bI (p : Prop) [Decidable p] : Int32 := if p then 1 else 0
def z_need (M : Mz) (r : Nat) : Nat := if 0 < z_oil M r then 1 else 2
abbrev d_isAt (d : Dr) (r : Nat) : Prop := d_lo d = r ∨ d_hi d = r
def d_beh (d : Dr) (r : Nat) : Nat := if d_lo d = r then d_hi d else d_lo d
/-- a door that isn't shut, for a step of a parity -/
abbrev d_for (d : Dr) (last : Nat) : Prop := d_kd d = 0 ∨ last % 2 = (if d_kd d = 1 then 1 else 0)
/-- from the spot k through the door d -/
abbrev z_open (M : Mz) (k d : Nat) : Prop := d_isAt (z_dr M d) (k / 2) ∧ d_sh (z_dr M d) = 0 ∧ d_for (z_dr M d) (k % 2 + z_need M (k / 2))
def z_to (M : Mz) (k d : Nat) : Nat := 2 * d_beh (z_dr M d) (k / 2) + (k + z_need M (k / 2)) % 2
theorem z_need_pos (M : Mz) (r : Nat) : 1 ≤ z_need M r ∧ z_need M r ≤ 2 := by unfold z_need; split <;> omega
theorem bI_1 {p : Prop} [Decidable p] (h : p) : bI p = 1 := if_pos h
theorem bI_0 {p : Prop} [Decidable p] (h : ¬ p) : bI p = 0 := if_neg h
theorem bI_z {p : Prop} [Decidable p] {X Y : Prop} (hx : ¬ p → X) (hy : p → Y) : (bI p = 0 → X) ∧ (¬ (bI p = 0) → Y) := by
  refine ⟨fun e => hx fun hp => ?_, fun e => hy ?_⟩
  · rw [bI_1 hp] at e; exact absurd e (by decide)
  · apply Decidable.byContradiction
    intro hp
    exact e (bI_0 hp)
theorem bI_nar {p : Prop} [Decidable p] : narrow .boolean (.int (bI p)) = .int (bI p) := by unfold bI; split <;> rfl
theorem bI_c {p q : Prop} [Decidable p] [Decidable q] (h : p ↔ q) : bI p = bI q := by
  by_cases hp : p
  · rw [bI_1 hp, bI_1 (h.mp hp)]
  · rw [bI_0 hp, bI_0 (fun z => hp (h.mpr z))]
/-- an index: a number that names one of n places -/
abbrev ix (x : Int32) (n : Nat) : Prop := 0 ≤ x.toInt ∧ x.toInt < n
theorem ix_n {x : Int32} {n : Nat} (h : ix x n) : ∃ r, r < n ∧ x = nI r := by
  obtain ⟨j, -, e⟩ := nI_of (x := x) (by rw [Int32.lt_iff_toInt_lt, Int32.toInt_zero]; omega)
  refine ⟨x.toInt.toNat, by omega, ?_⟩
  apply Int32.toInt_inj.mp
  have : x.toInt.toNat < 2 ^ 31 := by have := Int32.toInt_lt x; omega
  rw [nI_toInt this]; omega
theorem ix_nI {r n : Nat} (h : r < 2 ^ 31) : ix (nI r) n ↔ r < n := by
  unfold ix; rw [nI_toInt h]; omega
theorem Mz_in {G : Gt} {h : Hp} {x : Int32} {n : Nat} {K : Int32 → Hp → Prop} (hn : n < 2 ^ 29) (k : K (bI (ix x n)) h) : f_X2_in G h x 0 (nI n - 1) K := by
  have e : (nI n - 1 : Int32).toInt = (n : Int) - 1 := pk_sub_toInt (b := 1) (by omega) (by decide)
  unfold f_X2_in
  refine ⟨fun c => ?_, fun c => ⟨fun c2 => ?_, fun c2 => ?_⟩⟩
  · rw [Int32.lt_iff_toInt_lt, Int32.toInt_zero] at c
    rw [bI_0 (by unfold ix; omega)] at k; exact k
  · rw [Int32.lt_iff_toInt_lt, e] at c2
    rw [bI_0 (by unfold ix; omega)] at k; exact k
  · rw [Int32.lt_iff_toInt_lt, Int32.toInt_zero] at c
    rw [Int32.lt_iff_toInt_lt, e] at c2
    rw [bI_1 (by unfold ix; omega)] at k; exact k
theorem Mz_inL {G : Gt} {h : Hp} {x lo hi : Int32} {K : Int32 → Hp → Prop} (k : K (bI (lo.toInt ≤ x.toInt ∧ x.toInt ≤ hi.toInt)) h) : f_X2_in G h x lo hi K := by
  unfold f_X2_in
  refine ⟨fun c => ?_, fun c => ⟨fun c2 => ?_, fun c2 => ?_⟩⟩
  · rw [Int32.lt_iff_toInt_lt] at c
    rw [bI_0 (by omega)] at k; exact k
  · rw [Int32.lt_iff_toInt_lt] at c2
    rw [bI_0 (by omega)] at k; exact k
  · rw [Int32.lt_iff_toInt_lt] at c c2
    rw [bI_1 (by omega)] at k; exact k
