/-! WAYS: distances over arcs, from sources; rounds of relaxing settle all -/
set_option maxRecDepth 100000
/-- arcs: from, to, weight -/
abbrev Arc : Type := Nat → Nat → Nat → Prop
/-- a walk of k arcs to v that weighs c -/
def pth (A : Arc) (S : Nat → Prop) : Nat → Nat → Nat → Prop
  | 0, v, c => S v ∧ c = 0
  | k + 1, v, c => ∃ u c' w, pth A S k u c' ∧ A u v w ∧ c = c' + w
def wlk (A : Arc) (S : Nat → Prop) (v c : Nat) : Prop := ∃ k, pth A S k v c
theorem wlk_0 {A : Arc} {S : Nat → Prop} {v : Nat} (h : S v) : wlk A S v 0 := ⟨0, h, rfl⟩
theorem wlk_s {A : Arc} {S : Nat → Prop} {u v c w : Nat} (h : wlk A S u c) (ha : A u v w) : wlk A S v (c + w) := by
  obtain ⟨k, h⟩ := h
  exact ⟨k + 1, u, c, w, h, ha, rfl⟩
theorem wlk_c {A : Arc} {S : Nat → Prop} {v c : Nat} (h : wlk A S v c) : (S v ∧ c = 0) ∨ ∃ u c' w, wlk A S u c' ∧ A u v w ∧ c = c' + w := by
  obtain ⟨k, h⟩ := h
  cases k with
  | zero => exact Or.inl h
  | succ k =>
    obtain ⟨u, c', w, h1, h2, h3⟩ := h
    exact Or.inr ⟨u, c', w, ⟨k, h1⟩, h2, h3⟩
/-- the arcs lie in n places and weigh 1 or 2 -/
def okA (A : Arc) (S : Nat → Prop) (n : Nat) : Prop := (∀ u v w, A u v w → u < n ∧ v < n ∧ 1 ≤ w ∧ w ≤ 2) ∧ ∀ v, S v → v < n
/-- the least weight -/
def isD (A : Arc) (S : Nat → Prop) (v : Nat) (o : Option Nat) : Prop := match o with
  | none => ∀ c, ¬ wlk A S v c
  | some c => wlk A S v c ∧ ∀ c2, wlk A S v c2 → c ≤ c2
theorem isD_u {A : Arc} {S : Nat → Prop} {v : Nat} {o o2 : Option Nat} (h : isD A S v o) (h2 : isD A S v o2) : o = o2 := by
  cases o with
  | none =>
    cases o2 with
    | none => rfl
    | some c => exact absurd h2.1 (h c)
  | some c =>
    cases o2 with
    | none => exact absurd h.1 (h2 c)
    | some c2 =>
      have a := h.2 _ h2.1
      have b := h2.2 _ h.1
      rw [Nat.le_antisymm a b]
noncomputable def dst (A : Arc) (S : Nat → Prop) (v : Nat) : Option Nat := Classical.epsilon (fun o => isD A S v o)
theorem dst_is {A : Arc} {S : Nat → Prop} {v : Nat} {o : Option Nat} (h : isD A S v o) : dst A S v = o := isD_u (Classical.epsilon_spec ⟨o, h⟩) h
section RD
variable {A : Arc} {S : Nat → Prop} {n : Nat}
/-- settled after k rounds -/
def stl (A : Arc) (S : Nat → Prop) (f : Nat → Nat) (k v : Nat) : Prop := (∀ c, ¬ wlk A S v c) ∨ (f v ≤ 2 * k ∧ ∀ c, wlk A S v c → f v ≤ c)
/-- a round -/
def Rd (A : Arc) (f f' : Nat → Nat) : Prop := (∀ v, f' v ≤ f v) ∧ ∀ u v w, A u v w → f' v ≤ f u + w
theorem stl_m {f f' : Nat → Nat} {k v : Nat} (hr : Rd A f f') (h : stl A S f k v) : stl A S f' (k + 1) v := by
  rcases h with h | h
  · exact Or.inl h
  · refine Or.inr ⟨?_, fun c hc => Nat.le_trans (hr.1 v) (h.2 c hc)⟩
    have := hr.1 v; have := h.1; omega
theorem stl_new {f f' : Nat → Nat} {k : Nat} (ha : okA A S n) (hr : Rd A f f') (h0 : ∀ v, S v → f v = 0) : ∀ c v, wlk A S v c → ¬ stl A S f k v → ∃ v2, v2 < n ∧ ¬ stl A S f k v2 ∧ stl A S f' (k + 1) v2 := by
  intro c
  induction c using Nat.strongRecOn with
  | _ c ih =>
    intro v hv hn
    by_cases hs : ∃ c2 v2, c2 < c ∧ wlk A S v2 c2 ∧ ¬ stl A S f k v2
    · obtain ⟨c2, v2, h1, h2, h3⟩ := hs
      exact ih c2 h1 v2 h2 h3
    · rcases wlk_c hv with ⟨h1, h2⟩ | ⟨u, c', w, h1, h2, h3⟩
      · refine absurd (Or.inr ⟨?_, fun c3 _ => ?_⟩) hn
        · rw [h0 v h1]; omega
        · rw [h0 v h1]; omega
      · obtain ⟨a1, a2, a3, a4⟩ := ha.1 u v w h2
        have hu : stl A S f k u := by
          apply Classical.byContradiction
          intro z
          exact hs ⟨c', u, by omega, h1, z⟩
        rcases hu with hu | hu
        · exact absurd h1 (hu c')
        · refine ⟨v, a2, hn, Or.inr ⟨?_, fun c3 hc3 => ?_⟩⟩
          · have := hr.2 u v w h2; have := hu.1; omega
          · have b1 := hr.2 u v w h2
            have b2 := hu.2 c' h1
            have b3 : c ≤ c3 := by
              apply Classical.byContradiction
              intro z
              exact hs ⟨c3, v, by omega, hc3, hn⟩
            omega
/-- how many are settled -/
noncomputable def nS (A : Arc) (S : Nat → Prop) (f : Nat → Nat) (k n : Nat) : Nat := @cnt (fun v => stl A S f k v) (fun _ => Classical.propDecidable _) n
theorem cnt_le2 {p q : Nat → Prop} [DecidablePred p] [DecidablePred q] {n : Nat} (h : ∀ v, v < n → p v → q v) : cnt p n ≤ cnt q n := by
  induction n with
  | zero => exact Nat.le_refl _
  | succ n ih =>
    have := ih (fun v hv => h v (by omega))
    show cnt p n + _ ≤ cnt q n + _
    by_cases e : p n
    · rw [if_pos e, if_pos (h n (by omega) e)]; omega
    · rw [if_neg e]; omega
theorem cnt_lt {p q : Nat → Prop} [DecidablePred p] [DecidablePred q] {n : Nat} (h : ∀ v, v < n → p v → q v) {x : Nat} (hx : x < n) (h1 : ¬ p x) (h2 : q x) : cnt p n < cnt q n := by
  induction n with
  | zero => exact absurd hx (Nat.not_lt_zero _)
  | succ n ih =>
    show cnt p n + _ < cnt q n + _
    by_cases e : x = n
    · subst e
      have := cnt_le2 (p := p) (q := q) (n := x) (fun v hv => h v (by omega))
      rw [if_neg h1, if_pos h2]; omega
    · have := ih (fun v hv => h v (by omega)) (by omega)
      by_cases e2 : p n
      · rw [if_pos e2, if_pos (h n (by omega) e2)]; omega
      · rw [if_neg e2]; omega
theorem cnt_all {p : Nat → Prop} [DecidablePred p] {n : Nat} (h : n ≤ cnt p n) : ∀ v, v < n → p v := by
  induction n with
  | zero => intro v hv; exact absurd hv (Nat.not_lt_zero _)
  | succ n ih =>
    have h : n + 1 ≤ cnt p n + if p n then 1 else 0 := h
    have := cnt_le p n
    by_cases e : p n
    · rw [if_pos e] at h
      intro v hv
      by_cases e2 : v = n
      · subst e2; exact e
      · exact ih (by omega) v (by omega)
    · rw [if_neg e] at h; omega
/-- a round settles one more, or all are settled -/
theorem nS_r {f f' : Nat → Nat} {k : Nat} (ha : okA A S n) (hr : Rd A f f') (h0 : ∀ v, S v → f v = 0) : (∀ v, v < n → stl A S f k v) ∨ nS A S f k n < nS A S f' (k + 1) n := by
  by_cases h : ∀ v, v < n → stl A S f k v
  · exact Or.inl h
  · right
    have ⟨v, hv⟩ := Classical.not_forall.mp h
    have ⟨hv1, hv2⟩ : v < n ∧ ¬ stl A S f k v := ⟨Classical.byContradiction fun z => hv fun y => absurd y z, fun z => hv fun _ => z⟩
    have : ∃ c, wlk A S v c := Classical.byContradiction fun z => hv2 (Or.inl fun c hc => z ⟨c, hc⟩)
    obtain ⟨c, hc⟩ := this
    obtain ⟨v2, h1, h2, h3⟩ := stl_new ha hr h0 c v hc hv2
    exact @cnt_lt _ _ (fun _ => Classical.propDecidable _) (fun _ => Classical.propDecidable _) n (fun v _ hv => stl_m hr hv) v2 h1 h2 h3
/-- every finite entry is a walk's weight -/
def snd_ (A : Arc) (S : Nat → Prop) (far : Nat) (f : Nat → Nat) (n : Nat) : Prop := ∀ v, v < n → f v ≤ far ∧ (f v < far → wlk A S v (f v))
/-- at least k are settled, or all -/
def nst (A : Arc) (S : Nat → Prop) (f : Nat → Nat) (k n : Nat) : Prop := (∀ v, v < n → stl A S f k v) ∨ k ≤ nS A S f k n
theorem nst_0 {f : Nat → Nat} : nst A S f 0 n := Or.inr (Nat.zero_le _)
theorem nst_s {f f' : Nat → Nat} {k : Nat} (ha : okA A S n) (hr : Rd A f f') (h0 : ∀ v, S v → f v = 0) (h : nst A S f k n) : nst A S f' (k + 1) n := by
  rcases h with h | h
  · exact Or.inl fun v hv => stl_m hr (h v hv)
  · rcases nS_r (k := k) ha hr h0 with h2 | h2
    · exact Or.inl fun v hv => stl_m hr (h2 v hv)
    · exact Or.inr (by omega)
theorem nst_all {f : Nat → Nat} {k : Nat} (h : nst A S f k n) (hk : n ≤ k) : ∀ v, v < n → stl A S f k v := by
  rcases h with h | h
  · exact h
  · exact @cnt_all (fun v => stl A S f k v) (fun _ => Classical.propDecidable _) n (Nat.le_trans hk h)
theorem stl_D {f : Nat → Nat} {k far v : Nat} (hs : snd_ A S far f n) (hk : 2 * k < far) (hv : v < n) (h : stl A S f k v) : isD A S v (if f v = far then none else some (f v)) := by
  obtain ⟨s1, s2⟩ := hs v hv
  by_cases e : f v = far
  · rw [if_pos e]
    rcases h with h | h
    · exact h
    · omega
  · rw [if_neg e]
    have hw := s2 (by omega)
    rcases h with h | h
    · exact absurd hw (h _)
    · exact ⟨hw, h.2⟩
/-- what is settled can't be lowered by a walk -/
theorem stl_no {f f' : Nat → Nat} {k far v : Nat} (hs : snd_ A S far f' n) (hv : v < n) (h : stl A S f k v) (hl : f' v < f v) (hf : f v ≤ far) : False := by
  have hw := (hs v hv).2 (by omega)
  rcases h with h | h
  · exact h _ hw
  · have := h.2 _ hw; omega
end RD
