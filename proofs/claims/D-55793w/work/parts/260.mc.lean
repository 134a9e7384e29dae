/-! THE MODEL'S CHANGING CALLS -/
set_option maxRecDepth 100000
section GA
variable {q : Nat} {A : Nat → Nat} {s : MS} {h0 : Hp} {KI : Int32 → Prop} {KH : Hp → Prop} {x : Int32}
theorem ga (hd : Dis q A) {i : Nat} (hi : i < 146) : aI (ovl q A s h0) (some (A 0)) 0 (nI i) KI ↔ KI (s.1 0 i) := by
  rw [aI_m hd 0 (by decide), vp_n (by omega), nI_clamp (by omega)]
  exact ⟨fun z => z.2, fun z => ⟨hi, z⟩⟩
theorem gs (hd : Dis q A) {i : Nat} (hi : i < 146) : sI (ovl q A s h0) (some (A 0)) (nI i) x KH ↔ KH (ovl q A (aU s 0 (upd (s.1 0) i x)) h0) := by
  rw [sI_m hd 0 (by decide), vp_n (by omega), nI_clamp (by omega)]
  exact ⟨fun z => z.2, fun z => ⟨hi, z⟩⟩
theorem ga0 (hd : Dis q A) : aI (ovl q A s h0) (some (A 0)) 0 (0 : Int32) KI ↔ KI (s.1 0 0) := by rw [show (0 : Int32) = nI 0 from rfl]; exact ga hd (by decide)
theorem gs0 (hd : Dis q A) : sI (ovl q A s h0) (some (A 0)) (0 : Int32) x KH ↔ KH (ovl q A (aU s 0 (upd (s.1 0) 0 x)) h0) := by rw [show (0 : Int32) = nI 0 from rfl]; exact gs hd (by decide)
theorem ga1 (hd : Dis q A) : aI (ovl q A s h0) (some (A 0)) 0 (1 : Int32) KI ↔ KI (s.1 0 1) := by rw [show (1 : Int32) = nI 1 from rfl]; exact ga hd (by decide)
theorem gs1 (hd : Dis q A) : sI (ovl q A s h0) (some (A 0)) (1 : Int32) x KH ↔ KH (ovl q A (aU s 0 (upd (s.1 0) 1 x)) h0) := by rw [show (1 : Int32) = nI 1 from rfl]; exact gs hd (by decide)
theorem ga2 (hd : Dis q A) : aI (ovl q A s h0) (some (A 0)) 0 (2 : Int32) KI ↔ KI (s.1 0 2) := by rw [show (2 : Int32) = nI 2 from rfl]; exact ga hd (by decide)
theorem gs2 (hd : Dis q A) : sI (ovl q A s h0) (some (A 0)) (2 : Int32) x KH ↔ KH (ovl q A (aU s 0 (upd (s.1 0) 2 x)) h0) := by rw [show (2 : Int32) = nI 2 from rfl]; exact gs hd (by decide)
theorem ga3 (hd : Dis q A) : aI (ovl q A s h0) (some (A 0)) 0 (3 : Int32) KI ↔ KI (s.1 0 3) := by rw [show (3 : Int32) = nI 3 from rfl]; exact ga hd (by decide)
theorem gs3 (hd : Dis q A) : sI (ovl q A s h0) (some (A 0)) (3 : Int32) x KH ↔ KH (ovl q A (aU s 0 (upd (s.1 0) 3 x)) h0) := by rw [show (3 : Int32) = nI 3 from rfl]; exact gs hd (by decide)
theorem ga7 (hd : Dis q A) : aI (ovl q A s h0) (some (A 0)) 0 (7 : Int32) KI ↔ KI (s.1 0 7) := by rw [show (7 : Int32) = nI 7 from rfl]; exact ga hd (by decide)
theorem gs7 (hd : Dis q A) : sI (ovl q A s h0) (some (A 0)) (7 : Int32) x KH ↔ KH (ovl q A (aU s 0 (upd (s.1 0) 7 x)) h0) := by rw [show (7 : Int32) = nI 7 from rfl]; exact gs hd (by decide)
theorem ga8 (hd : Dis q A) : aI (ovl q A s h0) (some (A 0)) 0 (8 : Int32) KI ↔ KI (s.1 0 8) := by rw [show (8 : Int32) = nI 8 from rfl]; exact ga hd (by decide)
theorem gs8 (hd : Dis q A) : sI (ovl q A s h0) (some (A 0)) (8 : Int32) x KH ↔ KH (ovl q A (aU s 0 (upd (s.1 0) 8 x)) h0) := by rw [show (8 : Int32) = nI 8 from rfl]; exact gs hd (by decide)
theorem ga9 (hd : Dis q A) : aI (ovl q A s h0) (some (A 0)) 0 (9 : Int32) KI ↔ KI (s.1 0 9) := by rw [show (9 : Int32) = nI 9 from rfl]; exact ga hd (by decide)
theorem gs9 (hd : Dis q A) : sI (ovl q A s h0) (some (A 0)) (9 : Int32) x KH ↔ KH (ovl q A (aU s 0 (upd (s.1 0) 9 x)) h0) := by rw [show (9 : Int32) = nI 9 from rfl]; exact gs hd (by decide)
theorem aU_aU {f g : Nat → Int32} {i : Nat} : aU (aU s i f) i g = aU s i g := by
  refine Prod.ext (funext fun j => ?_) rfl
  by_cases e : j = i
  · subst e; rw [aU_s, aU_s]
  · rw [aU_n e, aU_n e, aU_n e]
end GA
theorem gx_key (r c : Nat) : (((10 : Int32) + (4 : Int32) * nI r) + (1 : Int32)) + nI c = nI (10 + 4 * r + 1 + c) := by
  rw [gx_room, show (1 : Int32) = nI 1 from rfl, nI_add, nI_add]
theorem gx_hand (c : Nat) : (4 : Int32) + nI c = nI (4 + c) := by rw [show (4 : Int32) = nI 4 from rfl, nI_add]
theorem gx_dk (d : Nat) : ((50 : Int32) + (6 : Int32) * nI d) + (0 : Int32) = nI (50 + 6 * d) := gx_door d 0
theorem gx_d1 (d : Nat) : ((50 : Int32) + (6 : Int32) * nI d) + (1 : Int32) = nI (50 + 6 * d + 1) := gx_door d 1
theorem gx_d2 (d : Nat) : ((50 : Int32) + (6 : Int32) * nI d) + (2 : Int32) = nI (50 + 6 * d + 2) := gx_door d 2
theorem gx_d3 (d : Nat) : ((50 : Int32) + (6 : Int32) * nI d) + (3 : Int32) = nI (50 + 6 * d + 3) := gx_door d 3
theorem gx_d4 (d : Nat) : ((50 : Int32) + (6 : Int32) * nI d) + (4 : Int32) = nI (50 + 6 * d + 4) := gx_door d 4
theorem gx_d5 (d : Nat) : ((50 : Int32) + (6 : Int32) * nI d) + (5 : Int32) = nI (50 + 6 * d + 5) := gx_door d 5
theorem bI_y {p : Prop} [Decidable p] {X Y : Prop} (hy : p → Y) (hx : ¬ p → X) : (¬ (bI p = 0) → Y) ∧ (bI p = 0 → X) := ⟨(bI_z hx hy).2, (bI_z hx hy).1⟩
theorem Mz_inn {G : Gt} {h : Hp} {x a b : Int32} {lo hi : Int} {K : Int32 → Hp → Prop} (e1 : a.toInt = lo) (e2 : b.toInt = hi) (k : K (bI (inn x lo hi)) h) : f_X2_in G h x a b K := by
  subst e1; subst e2; exact Mz_inL k
/-- a choice by an equality, both ways told -/
theorem eq_y {p : Prop} {X Y : Prop} (hx : ¬ p → X) (hy : p → Y) : (¬ p → X) ∧ (p → Y) := ⟨hx, hy⟩
theorem oR2_g {s s' : MS} {O O' : Ou} (h : oR2 s O) (h1 : ∀ i, i ≠ 0 → s'.1 i = s.1 i) (h2 : s'.2 = s.2) (h3 : O'.2 = O.2) : oR2 s' O' := by
  obtain ⟨M, R⟩ := O
  obtain ⟨M', R'⟩ := O'
  cases h3
  unfold oR2 at h ⊢
  rw [h2, h1 1 (by decide), h1 2 (by decide), h1 4 (by decide), h1 5 (by decide)]
  exact h
section OP
variable {G : Gt} {q : Nat} {A : Nat → Nat} {s : MS} {h0 : Hp} {O : Ou} {N : Nat} {K : Int32 → Hp → Prop}
theorem mx_refuses {a b : Int32} (ho : oRep s O) (k : ∀ s', oRep s' (o_ref O a b) → Fr s s' → K (-1014) (ovl q A s' h0)) : f_X2_refuses G (ovl q A s h0) (some q) a b K := by
  unfold f_X2_refuses
  rw [pF_m7, pF_m8]
  refine k _ ⟨ho.1, ?_⟩ (Fr_c (Fr_c (Fr_r s) (by decide) (by decide)) (by decide) (by decide))
  obtain ⟨k1, k2, k3, k4, k5, k6, k7, k8, k9, k10⟩ := ho.2
  exact ⟨k1, k2, k3, k4, rfl, rfl, k7, k8, k9, k10⟩
theorem mx_kp {kk n : Nat} {K : Hp → Nat → Nat → Prop} (hG : Base G) (hd : Dis q A) (ho : oRep s O) (hw : wfO O N) (k : ∀ s', s'.1 0 = s.1 0 → oR2 s' (pushO O (o_c O)) → Fr s s' → K (ovl q A s' h0) kk n) : dV G Y_X2_keeps cX2_keeps 3 [.ref q, .ref (A 0)] (ovl q A s h0) kk n K xN := by
  refine dV_0 (mx_keeps (a := 0) hG hd ho.2 hw hw.1 ho.1 (Or.inl rfl) (fun s' h1 h2 h3 => k s' (h1 0 (by decide)) h3 ⟨h1 3 (by decide), h1 8 (by decide), h2 15 (by decide), h2 17 (by decide)⟩))
/-- the end of a change -/
theorem mx_fin {s' : MS} {M' : Mz} {F : Nat → Int32} (h : oR2 s' (pushO O (o_c O))) (hf : Fr s s') (hF : gRep F M') : oRep (aU s' 0 F) (o_new O M') ∧ Fr s (aU s' 0 F) := by
  refine ⟨⟨?_, oR2_g h (fun i hi => aU_n hi) rfl ?_⟩, Fr_a hf (by decide) (by decide)⟩
  · rw [aU_s]; exact hF
  · rfl
theorem mx_room (hG : Base G) (hd : Dis q A) (ho : oRep s O) (hw : wfO O N) {x : Int32} (k : ∀ s', oRep s' (apO O (opRoom (o_c O) x)).2 → Fr s s' → K (apO O (opRoom (o_c O) x)).1 (ovl q A s' h0)) : f_X2_room G (ovl q A s h0) 0 0 (some q) x K := by
  have hg := ho.1
  have hR := wf_nR hw.1
  unfold f_X2_room
  refine Mz_inn (lo := 0) (hi := 50) rfl rfl (bI_y (fun c => ?_) (fun c => ?_))
  · obtain ⟨o, ho1, rfl⟩ := inn_n (b := 50) c.1 c.2
    rw [gR_m0, ga0 hd, gr_nR hg, show (10 : Int32) = nI 10 from rfl, nI_is (by omega) (by decide)]
    refine ⟨fun e => ?_, fun e => ?_⟩
    · rw [opRoom, if_pos c, if_neg e, nN_nI (by omega)] at k
      rw [gR_m0, rv_m]
      refine mx_kp hG hd ho hw (fun s' e0 hk hf => ?_)
      rw [gR_m0, gR_m0, ga0 hd, e0, gr_nR hg, show nI 10 = (10 : Int32) from rfl, gx_room, gs hd (by omega), gR_m0, ga0 hd, gs0 hd, gR_m0, ga2 hd, aU_aU, aU_s, aU_s, e0]
      have n1 : upd (upd (s.1 0) (10 + 4 * z_nR (o_c O)) (nI o)) 0 (upd (s.1 0) (10 + 4 * z_nR (o_c O)) (nI o) 0 + 1) = upd (upd (s.1 0) (10 + 4 * z_nR (o_c O)) (nI o)) 0 (nI (z_nR (o_c O) + 1)) := by
        rw [pk_un (by omega), gr_nR hg, nI_1]
      rw [n1, pk_un (by omega), pk_un (by omega)]
      refine ⟨fun e3 => ?_, fun e3 => ?_⟩
      · rw [gR_m0, ga0 hd, aU_s, pk_us, nI_pred]
        have h4 : 0 < z_nR (o_c O) := by
          apply Nat.pos_of_ne_zero
          intro z
          rw [gr_at0 hg z] at e3; exact absurd e3 (by decide)
        obtain ⟨f1, f2⟩ := mx_fin hk hf (sRoom_g (o := o) (g' := upd (upd (s.1 0) (10 + 4 * z_nR (o_c O)) (nI o)) 0 (nI (z_nR (o_c O) + 1))) hw.1 hg (by omega) pk_us (by rw [pk_un (by omega), pk_us]) (by rw [pk_un (by omega), pk_un (by omega), gr_at hg h4]) (fun j j1 j2 j3 => by rw [pk_un j1, pk_un j2]))
        exact k _ f1 f2
      · rw [gR_m0, gs2 hd, gR_m0, ga0 hd, aU_aU, aU_s, aU_s, pk_un (by decide), pk_us, nI_pred]
        have h4 : z_at (o_c O) = 0 := by
          rcases Nat.eq_zero_or_pos (z_nR (o_c O)) with z | z
          · have := wf_at hw.1; omega
          · rw [gr_at hg z] at e3
            have := wf_at hw.1
            exact absurd (nI_pos' (n := z_at (o_c O)) (by omega)) e3
        obtain ⟨f1, f2⟩ := mx_fin hk hf (sRoom_g (o := o) (g' := upd (upd (upd (s.1 0) (10 + 4 * z_nR (o_c O)) (nI o)) 0 (nI (z_nR (o_c O) + 1))) 2 0) hw.1 hg (by omega) (by rw [pk_un (by decide), pk_us]) (by rw [pk_un (by omega), pk_un (by omega), pk_us]) (by rw [pk_us, h4]; rfl) (fun j j1 j2 j3 => by rw [pk_un j3, pk_un j1, pk_un j2]))
        exact k _ f1 f2
    · rw [opRoom, if_pos c, if_pos e] at k
      rw [rv_m]
      exact mx_refuses ho k
  · rw [opRoom, if_neg c] at k
    exact k s ho (Fr_r s)
end OP
