/-! the plain law: Coasts made, copied, gone on with -/
set_option maxRecDepth 100000
/-- old cells keep but those of S; so many cells and slots are new -/
def fa (S : Nat → Prop) (n m : Nat) (σ σ' : vv_S) : Prop := (σ.2.1 ≤ σ'.2.1 ∧ σ'.2.1 ≤ σ.2.1 + n ∧ σ.2.2 ≤ σ'.2.2 ∧ σ'.2.2 ≤ σ.2.2 + m) ∧ ∀ q, q < σ.2.1 → ¬ S q → σ'.1 q = σ.1 q
theorem fa.rf {S : Nat → Prop} {σ : vv_S} : fa S 0 0 σ σ := ⟨⟨Nat.le_refl _, Nat.le_refl _, Nat.le_refl _, Nat.le_refl _⟩, fun _ _ _ => rfl⟩
theorem fa.off {S : Nat → Prop} {σ σ' : vv_S} (h : fr S σ σ') : fa S 0 0 σ σ' := ⟨by rw [h.1]; exact ⟨Nat.le_refl _, Nat.le_refl _, Nat.le_refl _, Nat.le_refl _⟩, fun q _ hq => h.2 q hq⟩
theorem fa.tr {S S' : Nat → Prop} {n m n' m' : Nat} {σ σ1 σ2 : vv_S} (h1 : fa S n m σ σ1) (h2 : fa S' n' m' σ1 σ2) (hS : ∀ q, q < σ.2.1 → S' q → S q) : fa S (n + n') (m + m') σ σ2 := by
  obtain ⟨⟨a1, a2, a3, a4⟩, a5⟩ := h1
  obtain ⟨⟨b1, b2, b3, b4⟩, b5⟩ := h2
  exact ⟨⟨by omega, by omega, by omega, by omega⟩, fun q hq hs => (b5 q (by omega) (fun h => hs (hS q hq h))).trans (a5 q hq hs)⟩
theorem fa.mo {S S' : Nat → Prop} {n m n' m' : Nat} {σ σ' : vv_S} (h : fa S n m σ σ') (hS : ∀ q, S q → S' q) (hn : n ≤ n') (hm : m ≤ m') : fa S' n' m' σ σ' := by
  obtain ⟨⟨a1, a2, a3, a4⟩, a5⟩ := h
  exact ⟨⟨by omega, by omega, by omega, by omega⟩, fun q hq hs => a5 q hq (fun h => hs (hS q h))⟩
theorem up_s {h : Nat → Option vv_E} {a : Nat} {e : vv_E} : vv_up h a e a = some e := vv_up_at
theorem co_step {σ : vv_S} {b j n : Nat} {fs : List Value} (hb : σ.1 b = some (true, .inr (2, fs))) (hj : j < fs.length) (hn : n < 100) (hlt : b < σ.2.1) : ∃ σ1 σ2, nwA σ .int (nI n) = some σ1 ∧ pF σ1 b 2 j (.ref σ.2.1) = some σ2 ∧ σ2.2 = (σ.2.1 + 1, σ.2.2 + n) ∧ σ2.1 b = some (true, .inr (2, fs.set j (.ref σ.2.1))) ∧ σ2.1 σ.2.1 = some (true, .inl (.int, n, .inl (fun _ => 0))) ∧ ∀ q, q ≠ b → q ≠ σ.2.1 → σ2.1 q = σ.1 q := by
  have hcl := nI_clamp (n := n) (by omega)
  refine ⟨(vv_up σ.1 σ.2.1 (true, .inl (.int, n, .inl (fun _ => 0))), σ.2.1 + 1, σ.2.2 + n), (vv_up (vv_up σ.1 σ.2.1 (true, .inl (.int, n, .inl (fun _ => 0)))) b (true, .inr (2, fs.set j (.ref σ.2.1))), σ.2.1 + 1, σ.2.2 + n), ?_, ?_, rfl, vv_up_at, ?_, fun q h1 h2 => ?_⟩
  · unfold nwA
    rw [if_neg (by rw [hcl]; intro h; rcases h with h | h; exact nI_pos (by omega) h; omega), hcl]
  · unfold pF
    dsimp only
    rw [up_n (by omega), hb]
    show (if (2 : Nat) = 2 ∧ j < fs.length then _ else none) = _
    rw [if_pos ⟨rfl, hj⟩]
  · dsimp only
    rw [up_n (by omega)]
    exact vv_up_at
  · dsimp only
    rw [up_n h1, up_n h2]
theorem K_init {σ : vv_S} {b x0 : Nat} (hb : σ.1 b = some (true, .inr (2, [.null, .null, .null, .null, .null, .null, .null, .null, .null, .int 0, .int 0, .null]))) (hs : σ.2.1 = b + 1) : ∃ σ', KX3_init b x0 σ = some σ' ∧ isCo σ' x0 b (fun _ => 0) 0 ∧ σ'.2 = (b + 10, σ.2.2 + 84) ∧ ∀ q, ¬ coA b q → σ'.1 q = σ.1 q := by
  have e0 : pF σ b 2 11 (.ref x0) = some (vv_up σ.1 b (true, .inr (2, [.null, .null, .null, .null, .null, .null, .null, .null, .null, .int 0, .int 0, .ref x0])), σ.2) := by
    unfold pF
    rw [hb]
    rfl
  obtain ⟨τ0, hτ0⟩ : ∃ τ0 : vv_S, τ0 = (vv_up σ.1 b (true, .inr (2, [.null, .null, .null, .null, .null, .null, .null, .null, .null, .int 0, .int 0, .ref x0])), σ.2) := ⟨_, rfl⟩
  rw [← hτ0] at e0
  have b0 : τ0.1 b = some (true, .inr (2, [.null, .null, .null, .null, .null, .null, .null, .null, .null, .int 0, .int 0, .ref x0])) := by rw [hτ0]; exact vv_up_at
  have z0 : τ0.2.1 = b + 1 + 0 := by rw [hτ0]; exact hs
  have y0 : τ0.2.2 = σ.2.2 := by rw [hτ0]
  have k0 : ∀ q, q ≠ b → τ0.1 q = σ.1 q := fun q hq => by rw [hτ0]; exact up_n hq
  obtain ⟨ρ0, τ1, n0, p0, t0, b1, a0, k1⟩ := co_step (j := 0) (n := 8) b0 (by simp) (by omega) (by omega)
  have z1 : τ1.2.1 = b + 1 + 1 := by rw [t0]; show τ0.2.1 + 1 = _; omega
  have y1 : τ1.2.2 = σ.2.2 + 8 := by rw [t0]; show τ0.2.2 + 8 = _; omega
  rw [z0] at b1 a0
  obtain ⟨ρ1, τ2, n1, p1, t1, b2, a1, k2⟩ := co_step (j := 1) (n := 8) b1 (by simp) (by omega) (by omega)
  have z2 : τ2.2.1 = b + 1 + 2 := by rw [t1]; show τ1.2.1 + 1 = _; omega
  have y2 : τ2.2.2 = σ.2.2 + 16 := by rw [t1]; show τ1.2.2 + 8 = _; omega
  rw [z1] at b2 a1
  obtain ⟨ρ2, τ3, n2, p2, t2, b3, a2, k3⟩ := co_step (j := 2) (n := 8) b2 (by simp) (by omega) (by omega)
  have z3 : τ3.2.1 = b + 1 + 3 := by rw [t2]; show τ2.2.1 + 1 = _; omega
  have y3 : τ3.2.2 = σ.2.2 + 24 := by rw [t2]; show τ2.2.2 + 8 = _; omega
  rw [z2] at b3 a2
  obtain ⟨ρ3, τ4, n3, p3, t3, b4, a3, k4⟩ := co_step (j := 3) (n := 10) b3 (by simp) (by omega) (by omega)
  have z4 : τ4.2.1 = b + 1 + 4 := by rw [t3]; show τ3.2.1 + 1 = _; omega
  have y4 : τ4.2.2 = σ.2.2 + 34 := by rw [t3]; show τ3.2.2 + 10 = _; omega
  rw [z3] at b4 a3
  obtain ⟨ρ4, τ5, n4, p4, t4, b5, a4, k5⟩ := co_step (j := 4) (n := 10) b4 (by simp) (by omega) (by omega)
  have z5 : τ5.2.1 = b + 1 + 5 := by rw [t4]; show τ4.2.1 + 1 = _; omega
  have y5 : τ5.2.2 = σ.2.2 + 44 := by rw [t4]; show τ4.2.2 + 10 = _; omega
  rw [z4] at b5 a4
  obtain ⟨ρ5, τ6, n5, p5, t5, b6, a5, k6⟩ := co_step (j := 5) (n := 10) b5 (by simp) (by omega) (by omega)
  have z6 : τ6.2.1 = b + 1 + 6 := by rw [t5]; show τ5.2.1 + 1 = _; omega
  have y6 : τ6.2.2 = σ.2.2 + 54 := by rw [t5]; show τ5.2.2 + 10 = _; omega
  rw [z5] at b6 a5
  obtain ⟨ρ6, τ7, n6, p6, t6, b7, a6, k7⟩ := co_step (j := 6) (n := 10) b6 (by simp) (by omega) (by omega)
  have z7 : τ7.2.1 = b + 1 + 7 := by rw [t6]; show τ6.2.1 + 1 = _; omega
  have y7 : τ7.2.2 = σ.2.2 + 64 := by rw [t6]; show τ6.2.2 + 10 = _; omega
  rw [z6] at b7 a6
  obtain ⟨ρ7, τ8, n7, p7, t7, b8, a7, k8⟩ := co_step (j := 7) (n := 10) b7 (by simp) (by omega) (by omega)
  have z8 : τ8.2.1 = b + 1 + 8 := by rw [t7]; show τ7.2.1 + 1 = _; omega
  have y8 : τ8.2.2 = σ.2.2 + 74 := by rw [t7]; show τ7.2.2 + 10 = _; omega
  rw [z7] at b8 a7
  obtain ⟨ρ8, τ9, n8, p8, t8, b9, a8, k9⟩ := co_step (j := 8) (n := 10) b8 (by simp) (by omega) (by omega)
  have z9 : τ9.2.1 = b + 1 + 9 := by rw [t8]; show τ8.2.1 + 1 = _; omega
  have y9 : τ9.2.2 = σ.2.2 + 84 := by rw [t8]; show τ8.2.2 + 10 = _; omega
  rw [z8] at b9 a8
  refine ⟨τ9, ?_, ⟨b9, fun j hj => ?_⟩, ?_, fun q hq => ?_⟩
  · unfold KX3_init
    simp only [e0, n0, p0, n1, p1, n2, p2, n3, p3, n4, p4, n5, p5, n6, p6, n7, p7, n8, p8, Option.bind_some]
  · rcases (show j = 0 ∨ j = 1 ∨ j = 2 ∨ j = 3 ∨ j = 4 ∨ j = 5 ∨ j = 6 ∨ j = 7 ∨ j = 8 by omega) with rfl | rfl | rfl | rfl | rfl | rfl | rfl | rfl | rfl
    · exact ⟨fun _ => 0, by rw [k9 _ (by omega) (by omega), k8 _ (by omega) (by omega), k7 _ (by omega) (by omega), k6 _ (by omega) (by omega), k5 _ (by omega) (by omega), k4 _ (by omega) (by omega), k3 _ (by omega) (by omega), k2 _ (by omega) (by omega)]; exact a0, fun _ _ => rfl⟩
    · exact ⟨fun _ => 0, by rw [k9 _ (by omega) (by omega), k8 _ (by omega) (by omega), k7 _ (by omega) (by omega), k6 _ (by omega) (by omega), k5 _ (by omega) (by omega), k4 _ (by omega) (by omega), k3 _ (by omega) (by omega)]; exact a1, fun _ _ => rfl⟩
    · exact ⟨fun _ => 0, by rw [k9 _ (by omega) (by omega), k8 _ (by omega) (by omega), k7 _ (by omega) (by omega), k6 _ (by omega) (by omega), k5 _ (by omega) (by omega), k4 _ (by omega) (by omega)]; exact a2, fun _ _ => rfl⟩
    · exact ⟨fun _ => 0, by rw [k9 _ (by omega) (by omega), k8 _ (by omega) (by omega), k7 _ (by omega) (by omega), k6 _ (by omega) (by omega), k5 _ (by omega) (by omega)]; exact a3, fun _ _ => rfl⟩
    · exact ⟨fun _ => 0, by rw [k9 _ (by omega) (by omega), k8 _ (by omega) (by omega), k7 _ (by omega) (by omega), k6 _ (by omega) (by omega)]; exact a4, fun _ _ => rfl⟩
    · exact ⟨fun _ => 0, by rw [k9 _ (by omega) (by omega), k8 _ (by omega) (by omega), k7 _ (by omega) (by omega)]; exact a5, fun _ _ => rfl⟩
    · exact ⟨fun _ => 0, by rw [k9 _ (by omega) (by omega), k8 _ (by omega) (by omega)]; exact a6, fun _ _ => rfl⟩
    · exact ⟨fun _ => 0, by rw [k9 _ (by omega) (by omega)]; exact a7, fun _ _ => rfl⟩
    · exact ⟨fun _ => 0, by exact a8, fun _ _ => rfl⟩
  · exact Prod.ext (by rw [z9]) (by rw [y9])
  · have h1 : ¬ (b ≤ q ∧ q < b + 10) := hq
    rw [k9 _ (by omega) (by omega), k8 _ (by omega) (by omega), k7 _ (by omega) (by omega), k6 _ (by omega) (by omega), k5 _ (by omega) (by omega), k4 _ (by omega) (by omega), k3 _ (by omega) (by omega), k2 _ (by omega) (by omega), k1 _ (by omega) (by omega), k0 _ (by omega)]
/-- as another one -/
def ag (D : Nat → Prop) (R R' : Nat → Int32) : Prop := ∀ k, D k → R' k = R k
theorem ag.u {D : Nat → Prop} {R R' : Nat → Int32} {j : Nat} (h : ag D R R') : ag (fun k => k = j ∨ D k) R (upd R' j (R j)) := fun k hk => by
  by_cases e : k = j
  · subst e; exact upd_s
  · rw [upd_n e]; exact h k (hk.resolve_left e)
section CP
variable {σ : vv_S} {x0 a b : Nat} {R R' : Nat → Int32} {lo lo' : Int32} {D : Nat → Prop}
theorem be1 (hab : a + 10 ≤ b ∨ b + 10 ≤ a) (ha : isCo σ x0 a R lo) (hb : isCo σ x0 b R' lo') (g : ag D R R') {j i : Nat} (hj : j < 9) (hi : i < ro_n j) : ∃ σ' R'', sI σ (b + 1 + j) (nI i) (R (ro_b j + i)) = some σ' ∧ isCo σ' x0 a R lo ∧ isCo σ' x0 b R'' lo' ∧ ag (fun k => k = ro_b j + i ∨ D k) R R'' ∧ fr (coA b) σ σ' := by
  obtain ⟨σ', s1, c1, f1⟩ := co_sI hb (v := R (ro_b j + i)) hj hi
  exact ⟨σ', _, s1, ha.ke fun q h1 h2 => f1.2 q (fun h3 => by have h3 : b ≤ q ∧ q < b + 10 := h3; omega), c1, g.u, f1⟩
theorem K_be52 (hab : a + 10 ≤ b ∨ b + 10 ≤ a) : ∀ (c i n : Nat) (σ : vv_S) (R' : Nat → Int32), isCo σ x0 a R lo → isCo σ x0 b R' lo' → ag (fun k => (1 ≤ k ∧ k < 25) ∨ (25 ≤ k ∧ k < 85 ∧ (k - 25) % 10 < i)) R R' → i + c = 10 → c < n → ∃ σ', KX3_be_52 n b a (nI i) σ = some (b, σ') ∧ isCo σ' x0 a R lo ∧ isCo σ' x0 b R lo' ∧ fr (coA b) σ σ' := by
  intro c
  induction c with
  | zero =>
    intro i n σ R' ha hb g hi hn
    obtain ⟨n, rfl⟩ : ∃ m, n = m + 1 := ⟨n - 1, by omega⟩
    show ∃ σ', BKX3_be_52 (KX3_be_52 n) b a (nI i) σ = _ ∧ _
    unfold BKX3_be_52
    rw [if_pos (nI_le (by omega) (by omega)), co_9 ha]
    obtain ⟨σ1, s1, c1, f1⟩ := co_p9 hb (v := R 0)
    simp only [s1, Option.bind_some]
    refine ⟨σ1, rfl, ha.ke fun q h1 h2 => f1.2 q (fun h3 => by have h3 : b ≤ q ∧ q < b + 10 := h3; omega), c1.ext fun k hk => ?_, f1⟩
    by_cases e : k = 0
    · subst e; rw [upd_s]
    · rw [upd_n e]; exact (g k (by omega)).symm
  | succ c ih =>
    intro i n σ R' ha hb g hi hn
    obtain ⟨n, rfl⟩ : ∃ m, n = m + 1 := ⟨n - 1, by omega⟩
    show ∃ σ', BKX3_be_52 (KX3_be_52 n) b a (nI i) σ = _ ∧ _
    unfold BKX3_be_52
    rw [if_neg (nI_ge (show i < 10 by omega) (by omega)), nI_add]
    have i10 : i < 10 := by omega
    have e1 : aI σ .int (a + 1 + 3) (nI i) = some (R (25 + i)) := co_aI ha (j := 3) (by decide) i10
    obtain ⟨σ1, R1, s1, A1, B1, G1, F1⟩ := be1 hab ha hb g (j := 3) (i := i) (by decide) i10
    have s1 : sI σ (b + 1 + 3) (nI i) (R (25 + i)) = some σ1 := s1
    have e2 : aI σ1 .int (a + 1 + 4) (nI i) = some (R (35 + i)) := co_aI A1 (j := 4) (by decide) i10
    obtain ⟨σ2, R2, s2, A2, B2, G2, F2⟩ := be1 hab A1 B1 G1 (j := 4) (i := i) (by decide) i10
    have s2 : sI σ1 (b + 1 + 4) (nI i) (R (35 + i)) = some σ2 := s2
    have e3 : aI σ2 .int (a + 1 + 5) (nI i) = some (R (45 + i)) := co_aI A2 (j := 5) (by decide) i10
    obtain ⟨σ3, R3, s3, A3, B3, G3, F3⟩ := be1 hab A2 B2 G2 (j := 5) (i := i) (by decide) i10
    have s3 : sI σ2 (b + 1 + 5) (nI i) (R (45 + i)) = some σ3 := s3
    have e4 : aI σ3 .int (a + 1 + 6) (nI i) = some (R (55 + i)) := co_aI A3 (j := 6) (by decide) i10
    obtain ⟨σ4, R4, s4, A4, B4, G4, F4⟩ := be1 hab A3 B3 G3 (j := 6) (i := i) (by decide) i10
    have s4 : sI σ3 (b + 1 + 6) (nI i) (R (55 + i)) = some σ4 := s4
    have e5 : aI σ4 .int (a + 1 + 7) (nI i) = some (R (65 + i)) := co_aI A4 (j := 7) (by decide) i10
    obtain ⟨σ5, R5, s5, A5, B5, G5, F5⟩ := be1 hab A4 B4 G4 (j := 7) (i := i) (by decide) i10
    have s5 : sI σ4 (b + 1 + 7) (nI i) (R (65 + i)) = some σ5 := s5
    have e6 : aI σ5 .int (a + 1 + 8) (nI i) = some (R (75 + i)) := co_aI A5 (j := 8) (by decide) i10
    obtain ⟨σ6, R6, s6, A6, B6, G6, F6⟩ := be1 hab A5 B5 G5 (j := 8) (i := i) (by decide) i10
    have s6 : sI σ5 (b + 1 + 8) (nI i) (R (75 + i)) = some σ6 := s6
    obtain ⟨σ9, s9, A9, B9, F9⟩ := ih (i + 1) n σ6 R6 A6 B6 (fun k hk => G6 k (by
      show k = 75 + i ∨ k = 65 + i ∨ k = 55 + i ∨ k = 45 + i ∨ k = 35 + i ∨ k = 25 + i ∨ _
      omega)) (by omega) (by omega)
    simp only [co_R hb (j := 3) (by decide), co_R ha (j := 3) (by decide), e1, s1, co_R B1 (j := 4) (by decide), co_R A1 (j := 4) (by decide), e2, s2, co_R B2 (j := 5) (by decide), co_R A2 (j := 5) (by decide), e3, s3, co_R B3 (j := 6) (by decide), co_R A3 (j := 6) (by decide), e4, s4, co_R B4 (j := 7) (by decide), co_R A4 (j := 7) (by decide), e5, s5, co_R B5 (j := 8) (by decide), co_R A5 (j := 8) (by decide), e6, s6, s9, Option.bind_some]
    exact ⟨σ9, rfl, A9, B9, (((((F1.tr F2).tr F3).tr F4).tr F5).tr F6).tr F9⟩
theorem K_be2 (hab : a + 10 ≤ b ∨ b + 10 ≤ a) : ∀ (c i n : Nat) (σ : vv_S) (R' : Nat → Int32), isCo σ x0 a R lo → isCo σ x0 b R' lo' → ag (fun k => 1 ≤ k ∧ k < 25 ∧ (k - 1) % 8 < i) R R' → i + c = 8 → c < n → ∃ σ', KX3_be_2 n b a (nI i) σ = some (b, σ') ∧ isCo σ' x0 a R lo ∧ isCo σ' x0 b R lo' ∧ fr (coA b) σ σ' := by
  intro c
  induction c with
  | zero =>
    intro i n σ R' ha hb g hi hn
    obtain ⟨n, rfl⟩ : ∃ m, n = m + 1 := ⟨n - 1, by omega⟩
    show ∃ σ', BKX3_be_2 (KX3_be_2 n) b a (nI i) σ = _ ∧ _
    unfold BKX3_be_2
    rw [if_pos (nI_le (by omega) (by omega))]
    exact K_be52 hab 10 0 NN σ R' ha hb (fun k hk => g k (by omega)) (by omega) (by unfold NN; omega)
  | succ c ih =>
    intro i n σ R' ha hb g hi hn
    obtain ⟨n, rfl⟩ : ∃ m, n = m + 1 := ⟨n - 1, by omega⟩
    show ∃ σ', BKX3_be_2 (KX3_be_2 n) b a (nI i) σ = _ ∧ _
    unfold BKX3_be_2
    rw [if_neg (nI_ge (show i < 8 by omega) (by omega)), nI_add]
    have i8 : i < 8 := by omega
    have e1 : aI σ .int (a + 1 + 0) (nI i) = some (R (1 + i)) := co_aI ha (j := 0) (by decide) i8
    obtain ⟨σ1, R1, s1, A1, B1, G1, F1⟩ := be1 hab ha hb g (j := 0) (i := i) (by decide) i8
    have s1 : sI σ (b + 1 + 0) (nI i) (R (1 + i)) = some σ1 := s1
    have e2 : aI σ1 .int (a + 1 + 1) (nI i) = some (R (9 + i)) := co_aI A1 (j := 1) (by decide) i8
    obtain ⟨σ2, R2, s2, A2, B2, G2, F2⟩ := be1 hab A1 B1 G1 (j := 1) (i := i) (by decide) i8
    have s2 : sI σ1 (b + 1 + 1) (nI i) (R (9 + i)) = some σ2 := s2
    have e3 : aI σ2 .int (a + 1 + 2) (nI i) = some (R (17 + i)) := co_aI A2 (j := 2) (by decide) i8
    obtain ⟨σ3, R3, s3, A3, B3, G3, F3⟩ := be1 hab A2 B2 G2 (j := 2) (i := i) (by decide) i8
    have s3 : sI σ2 (b + 1 + 2) (nI i) (R (17 + i)) = some σ3 := s3
    obtain ⟨σ9, s9, A9, B9, F9⟩ := ih (i + 1) n σ3 R3 A3 B3 (fun k hk => G3 k (by
      show k = 17 + i ∨ k = 9 + i ∨ k = 1 + i ∨ _
      omega)) (by omega) (by omega)
    simp only [co_R hb (j := 0) (by decide), co_R ha (j := 0) (by decide), e1, s1, co_R B1 (j := 1) (by decide), co_R A1 (j := 1) (by decide), e2, s2, co_R B2 (j := 2) (by decide), co_R A2 (j := 2) (by decide), e3, s3, s9, Option.bind_some]
    exact ⟨σ9, rfl, A9, B9, ((F1.tr F2).tr F3).tr F9⟩
theorem K_be (hab : a + 10 ≤ b ∨ b + 10 ≤ a) (ha : isCo σ x0 a R lo) (hb : isCo σ x0 b R' lo') : ∃ σ', KX3_be b a σ = some (b, σ') ∧ isCo σ' x0 a R lo ∧ isCo σ' x0 b R lo' ∧ fr (coA b) σ σ' := K_be2 hab 8 0 NN σ R' ha hb (fun k hk => by omega) (by omega) (by unfold NN; omega)
theorem K_new {σ : vv_S} : ∃ σ', KX3_init σ.2.1 x0 (nwO σ 2 [.null, .null, .null, .null, .null, .null, .null, .null, .null, .int 0, .int 0, .null] 12) = some σ' ∧ isCo σ' x0 σ.2.1 (fun _ => 0) 0 ∧ σ'.2 = (σ.2.1 + 10, σ.2.2 + 96) ∧ ∀ q, q < σ.2.1 → σ'.1 q = σ.1 q := by
  obtain ⟨σ', h1, h2, h3, h4⟩ := K_init (σ := nwO σ 2 [.null, .null, .null, .null, .null, .null, .null, .null, .null, .int 0, .int 0, .null] 12) (b := σ.2.1) (x0 := x0) vv_up_at rfl
  refine ⟨σ', h1, h2, h3, fun q hq => ?_⟩
  rw [h4 q (fun h => by have h : σ.2.1 ≤ q ∧ q < σ.2.1 + 10 := h; omega)]
  exact up_n (by omega)
theorem K_copy (h : isCo σ x0 a R lo) (ha : a + 10 ≤ σ.2.1) : ∃ σ', KX3_copy a σ = some (σ.2.1, σ') ∧ isCo σ' x0 σ.2.1 R 0 ∧ σ'.2 = (σ.2.1 + 10, σ.2.2 + 96) ∧ ∀ q, q < σ.2.1 → σ'.1 q = σ.1 q := by
  obtain ⟨σ1, s1, c1, z1, k1⟩ := K_new (x0 := x0) (σ := σ)
  have h0 : isCo (nwO σ 2 [.null, .null, .null, .null, .null, .null, .null, .null, .null, .int 0, .int 0, .null] 12) x0 a R lo := h.ke fun q h1 h2 => up_n (by omega)
  have h1 : isCo σ1 x0 a R lo := h.ke fun q h1 h2 => k1 q (by omega)
  obtain ⟨σ2, s2, A2, B2, F2⟩ := K_be (Or.inl ha) h1 c1
  refine ⟨σ2, ?_, B2, by rw [F2.1]; exact z1, fun q hq => ?_⟩
  · unfold KX3_copy
    simp only [co_11 h0, s1, co_o c1, s2, Option.bind_some]
  · rw [F2.2 q (fun h3 => by have h3 : σ.2.1 ≤ q ∧ q < σ.2.1 + 10 := h3; omega)]
    exact k1 q hq
end CP
/-- of all towns what there is -/
def sumR (P : pvT) (R : Nat → Int32) (s : Nat) : Int32 := lp (fun t v => v + R (s + t)) P.1.1 0 (nI 0)
section CQ
variable {σ : vv_S} {x0 a pa va : Nat} {h0 : Nat → Option vv_E} {P : pvT} {R : Nat → Int32} {lo : Int32} {T : tw_T} {b : Nat}
theorem K_after_loop (h6 : six P) (hd : ∀ q, coA a q → h0 q = none) (m : Nat) (hm : m < 2 ^ 31) : ∀ (c i n : Nat) (σ : vv_S) (R : Nat → Int32) (lo : Int32), isEnv σ x0 h0 pa va P → isCo σ x0 a R lo → i + c = m → c < n → ∃ σ' lo', KX3_after_2 (KX_fo 80) n a (nI m) (nI i) σ = some (a, σ') ∧ isEnv σ' x0 h0 pa va P ∧ isCo σ' x0 a (itR P c R) lo' ∧ fr (coV a va) σ σ' := by
  intro c
  induction c with
  | zero =>
    intro i n σ R lo H h hi hn
    obtain ⟨n, rfl⟩ : ∃ m, n = m + 1 := ⟨n - 1, by omega⟩
    show ∃ σ' lo', BKX3_after_2 (KX_fo 80) (KX3_after_2 (KX_fo 80) n) a (nI m) (nI i) σ = _ ∧ _
    unfold BKX3_after_2
    rw [if_pos (nI_le (by omega) (by omega))]
    exact ⟨σ, lo, rfl, H, h, fr.rf⟩
  | succ c ih =>
    intro i n σ R lo H h hi hn
    obtain ⟨n, rfl⟩ : ∃ m, n = m + 1 := ⟨n - 1, by omega⟩
    show ∃ σ' lo', BKX3_after_2 (KX_fo 80) (KX3_after_2 (KX_fo 80) n) a (nI m) (nI i) σ = _ ∧ _
    unfold BKX3_after_2
    rw [if_neg (nI_ge (show i < m by omega) (by omega)), nI_add]
    obtain ⟨σ1, s1, H1, c1, f1⟩ := K_pass H h h6 hd
    obtain ⟨σ2, lo2, s2, H2, c2, f2⟩ := ih (i + 1) n σ1 _ _ H1 c1 (by omega) (by omega)
    simp only [co_o h, s1, s2, Option.bind_some]
    exact ⟨σ2, lo2, rfl, H2, c2, f1.tr f2⟩
theorem K_after (H : isEnv σ x0 h0 pa va P) (h : isCo σ x0 a R lo) (h6 : six P) (hd : ∀ q, coA a q → h0 q = none) {m : Nat} (hm : m ≤ 60) : ∃ σ' lo', KX3_after (KX_fo 80) a (nI m) σ = some (a, σ') ∧ isEnv σ' x0 h0 pa va P ∧ isCo σ' x0 a (itR P m R) lo' ∧ fr (coV a va) σ σ' := K_after_loop h6 hd m (by omega) m 0 NN σ R lo H h (by omega) (by unfold NN; omega)
theorem K_sum_loop (H : isEnv σ x0 h0 pa va P) (h : isCo σ x0 a R lo) {j : Nat} (hj : j < 3) : ∀ (c i n : Nat) (v : Int32), i + c = P.1.1 → c < n → KX3_sum_4 n a (a + 1 + j) v (nI i) σ = some (lp (fun t v => v + R (ro_b j + t)) c i v) := by
  have h8 := ev_8 H
  intro c
  induction c with
  | zero =>
    intro i n v hi hn
    obtain ⟨n, rfl⟩ : ∃ m, n = m + 1 := ⟨n - 1, by omega⟩
    show BKX3_sum_4 (KX3_sum_4 n) a (a + 1 + j) v (nI i) σ = _
    unfold BKX3_sum_4
    simp only [co_11 h, ev_pa H, ev_o H, ev_tw H, Option.bind_some]
    rw [if_pos (nI_le (by omega) (by omega))]
    rfl
  | succ c ih =>
    intro i n v hi hn
    obtain ⟨n, rfl⟩ : ∃ m, n = m + 1 := ⟨n - 1, by omega⟩
    show BKX3_sum_4 (KX3_sum_4 n) a (a + 1 + j) v (nI i) σ = some (lp (fun t v => v + R (ro_b j + t)) c (i + 1) (v + R (ro_b j + i)))
    unfold BKX3_sum_4
    have e := co_aI h (j := j) (i := i) (by omega) (by unfold ro_n; rw [if_pos hj]; omega)
    simp only [co_11 h, ev_pa H, ev_o H, ev_tw H, Option.bind_some, e]
    rw [if_neg (nI_ge (show i < P.1.1 by omega) (by omega)), nI_add]
    exact ih (i + 1) n _ (by omega) (by omega)
theorem K_sum (H : isEnv σ x0 h0 pa va P) (h : isCo σ x0 a R lo) {j : Nat} (hj : j < 3) : KX3_sum a (a + 1 + j) σ = some (sumR P R (ro_b j)) := K_sum_loop H h hj P.1.1 0 NN (nI 0) (by omega) (by have := ev_8 H; unfold NN; omega)
theorem J_all_loop (h : isRw T b R) (hb : b ≤ 85) (hP : isTp T P) (h8 : P.1.1 ≤ 8) {s : Nat} (hs : s = 1 ∨ s = 9 ∨ s = 17) : ∀ (c i n : Nat) (v : Int32), i + c = P.1.1 → c < n → J_allOf_4 n (nI (b + s)) v (nI i) T = some (lp (fun t v => v + R (s + t)) c i v, T) := by
  intro c
  induction c with
  | zero =>
    intro i n v hi hn
    obtain ⟨n, rfl⟩ : ∃ m, n = m + 1 := ⟨n - 1, by omega⟩
    show B_allOf_4 (J_allOf_4 n) (nI (b + s)) v (nI i) T = _
    unfold B_allOf_4
    rw [hP.1, if_pos (nI_le (by omega) (by omega))]
    rfl
  | succ c ih =>
    intro i n v hi hn
    obtain ⟨n, rfl⟩ : ∃ m, n = m + 1 := ⟨n - 1, by omega⟩
    show B_allOf_4 (J_allOf_4 n) (nI (b + s)) v (nI i) T = some (lp (fun t v => v + R (s + t)) c (i + 1) (v + R (s + i)), T)
    unfold B_allOf_4
    rw [hP.1, if_neg (nI_ge (show i < P.1.1 by omega) (by omega)), nI_add, nI_add, Nat.add_assoc, rw_rd h hb (show s + i < 85 by omega) (us_t hP.1 (show i < P.1.1 by omega) h8 hs)]
    exact ih (i + 1) n _ (by omega) (by omega)
theorem J_all_e (h : isRw T b R) (hb : b ≤ 85) (hP : isTp T P) (h8 : P.1.1 ≤ 8) {s : Nat} (hs : s = 1 ∨ s = 9 ∨ s = 17) : J_allOf (nI (b + s)) T = some (sumR P R s, T) := J_all_loop h hb hP h8 hs P.1.1 0 NN (nI 0) (by omega) (by unfold NN; omega)
/-- a crate is opened -/
def openR (R : Nat → Int32) (k t : Nat) : Nat → Int32 := loseR (if R (35 + k) = 0 then giveR R t (R (25 + k)) else upd R (9 + t) (mnI (nI 9999) (R (9 + t) + R (25 + k)))) k
theorem K_open (h : isCo σ x0 a R lo) {k t : Nat} (hk : k < 10) (ht : t < 8) (hw : R (55 + k) = nI t) : ∃ σ', KX3_open a (nI k) σ = some (R (25 + k), σ') ∧ isCo σ' x0 a (openR R k t) lo ∧ fr (coA a) σ σ' := by
  have e3 : aI σ .int (a + 1 + 3) (nI k) = some (R (25 + k)) := co_aI h (j := 3) (by decide) hk
  have e4 : aI σ .int (a + 1 + 4) (nI k) = some (R (35 + k)) := co_aI h (j := 4) (by decide) hk
  have e6 : aI σ .int (a + 1 + 6) (nI k) = some (nI t) := by rw [← hw]; exact co_aI h (j := 6) (by decide) hk
  have e1 : aI σ .int (a + 1 + 1) (nI t) = some (R (9 + t)) := co_aI h (j := 1) (by decide) ht
  unfold KX3_open KX3_open_60 openR
  simp only [co_R h (j := 3) (by decide), co_R h (j := 4) (by decide), co_R h (j := 6) (by decide), co_R h (j := 1) (by decide), e3, e4, e6, e1, co_o h, Option.bind_some]
  by_cases hs : R (35 + k) = 0
  · rw [if_pos hs, if_pos hs]
    obtain ⟨σ1, s1, c1, f1⟩ := K_give h ht (v := R (25 + k))
    obtain ⟨σ2, s2, c2, f2⟩ := K_lose c1 hk
    simp only [s1, co_o c1, s2, Option.bind_some]
    exact ⟨σ2, rfl, c2, f1.tr f2⟩
  · rw [if_neg hs, if_neg hs]
    obtain ⟨σ1, s1, c1, f1⟩ := co_sI h (j := 1) (i := t) (v := mnI (nI 9999) (R (9 + t) + R (25 + k))) (by decide) ht
    obtain ⟨σ2, s2, c2, f2⟩ := K_lose c1 hk
    simp only [s1, co_o c1, s2, Option.bind_some]
    exact ⟨σ2, rfl, c2, f1.tr f2⟩
theorem inv_town_ix (h : invR P R) {k : Nat} (hk : k < 10) (hl : R (55 + k) ≠ -1) : ∃ t, t < P.1.1 ∧ R (55 + k) = nI t := by
  obtain ⟨-, -, -, ⟨w1, w2⟩, -⟩ := h.2 k hk
  have hne : (R (55 + k)).toInt ≠ -1 := fun e => hl (ti_eq (by rw [e, ti_m1]))
  obtain ⟨t, ht, e⟩ := nI_of (x := R (55 + k)) (by rw [ti_lt, ti_0]; omega)
  rw [e, ti_n ht] at w2
  exact ⟨t, by omega, e⟩
theorem J_opens_e (h : isRw T b R) (hb : b ≤ 85) (hI : invR P R) (hP : isTp T P) (h8 : P.1.1 ≤ 8) (h10 : P.1.2.2 ≤ 10) {k t : Nat} (hkc : k < P.1.2.2) (htc : t < P.1.1) (hw : R (55 + k) = nI t) (hg : R (65 + k) = 0) : ∃ T', J_opens (nI b) (nI k) T = some T' ∧ isRw T' b (openR R k t) ∧ T'.1 = T.1 ∧ jfr b T T' := by
  have hk : k < 10 := by omega
  have ht : t < 8 := by omega
  obtain ⟨⟨l1, l2⟩, ⟨d1, d2⟩⟩ := hI.1 t ht
  obtain ⟨⟨g1, g2⟩, ⟨s1, s2⟩, -⟩ := hI.2 k hk
  have e25 : (R (25 + k)).toInt ≤ 99 := g2
  have last : ∀ {T1 : tw_T} {R1 : Nat → Int32} {j : Nat}, isRw T1 b R1 → T1.1 = T.1 → jfr b T T1 → R1 (65 + k) = 0 → ∃ T', ((stA T1 20 170 (nI (b + (25 + k))) (nI 0)).bind fun T6 => (stA T6 20 170 (nI (b + (55 + k))) (-1)).bind fun T7 => some T7) = some T' ∧ isRw T' b (loseR R1 k) ∧ T'.1 = T.1 ∧ jfr b T T' := by
    intro T1 R1 j h1 q1 f1 hz
    obtain ⟨T2, s2, c2, f2⟩ := rw_st h1 hb (k := 25 + k) (v := nI 0) (by omega)
    obtain ⟨T3, s3, c3, f3⟩ := rw_st c2 hb (k := 55 + k) (v := -1) (by omega)
    refine ⟨T3, by simp only [s2, s3, Option.bind_some], c3.ext fun q hq => ?_, (stA_1 s3).trans ((stA_1 s2).trans q1), (f1.tr f2).tr f3⟩
    unfold loseR
    by_cases e : q = 65 + k
    · subst e
      rw [upd_s, upd_n (by omega), upd_n (by omega), hz, nI_0]
    · rw [upd_n e]
  unfold J_opens J_opens_22 openR
  simp only [rx2, rw_rd h hb (show 35 + k < 85 by omega) (us_c hP.2.2.1 hkc h10 (by omega)), rw_rd h hb (show 55 + k < 85 by omega) (us_c hP.2.2.1 hkc h10 (by omega)), rw_rd h hb (show 25 + k < 85 by omega) (us_c hP.2.2.1 hkc h10 (by omega)), hw, Option.bind_some]
  by_cases hs : R (35 + k) = 0
  · rw [if_neg (by rw [hs]; decide), if_pos hs]
    obtain ⟨T1, t1, c1, f1⟩ := rw_st h hb (k := 1 + t) (v := kepI (R (1 + t) + R (25 + k)) (nI 0) (nI 9999)) (by omega)
    rw [mn_kep (by rw [ti_add (by omega) (by omega)]; omega)] at c1
    simp only [rx2, rw_rd h hb (show 1 + t < 85 by omega) (us_t hP.1 htc h8 (by omega)), J_kept_e, t1, Option.bind_some]
    exact last (j := 0) c1 (stA_1 t1) f1 (by unfold giveR; rw [upd_n (by omega)]; exact hg)
  · have hs1 : R (35 + k) = nI 1 := by
      have hne : (R (35 + k)).toInt ≠ 0 := fun e => hs (ti_eq (by rw [e, ti_0]))
      have e1 := ti_n (n := 1) (by omega)
      exact ti_eq (by rw [e1]; omega)
    rw [if_pos hs1, if_neg hs]
    obtain ⟨T1, t1, c1, f1⟩ := rw_st h hb (k := 9 + t) (v := kepI (R (9 + t) + R (25 + k)) (nI 0) (nI 9999)) (by omega)
    rw [mn_kep (by rw [ti_add (by omega) (by omega)]; omega)] at c1
    simp only [rx2, rw_rd h hb (show 9 + t < 85 by omega) (us_t hP.1 htc h8 (by omega)), J_kept_e, t1, Option.bind_some]
    exact last (j := 0) c1 (stA_1 t1) f1 (by rw [upd_n (by omega)]; exact hg)
theorem inv_lose (h : invR P R) {k : Nat} (hk : k < 10) : invR P (loseR R k) := by
  have e0 := ti_n (n := 0) (by omega)
  unfold loseR
  exact inv_u (inv_u (inv_u h ⟨fun a c => by omega, fun _ _ => ⟨by rw [e0]; omega, by rw [e0]; omega⟩, fun a c => by omega, fun a c => by omega, fun a c => by omega⟩) ⟨fun a c => by omega, fun a c => by omega, fun a c => by omega, fun _ _ => ⟨by rw [ti_m1]; omega, by rw [ti_m1]; omega⟩, fun a c => by omega⟩) ⟨fun a c => by omega, fun a c => by omega, fun a c => by omega, fun a c => by omega, fun _ _ => ⟨by rw [e0]; omega, by rw [e0]; omega⟩⟩
theorem inv_bad (h : invR P R) {t : Nat} (ht : t < 8) {v : Int32} (h1 : 0 ≤ v.toInt) (h2 : v.toInt ≤ 2000000000) : invR P (upd R (9 + t) (mnI (nI 9999) (R (9 + t) + v))) := by
  obtain ⟨-, ⟨a1, a2⟩⟩ := h.1 t ht
  have e9 := ti_n (n := 9999) (by omega)
  have e : (R (9 + t) + v).toInt = (R (9 + t)).toInt + v.toInt := ti_add (by omega) (by omega)
  exact inv_u h ⟨fun _ _ => ⟨by rw [mn_ti, e9, e]; omega, by rw [mn_ti, e9, e]; omega⟩, fun a c => by omega, fun a c => by omega, fun a c => by omega, fun a c => by omega⟩
theorem inv_open (h : invR P R) {k t : Nat} (hk : k < 10) (ht : t < 8) : invR P (openR R k t) := by
  obtain ⟨⟨g1, g2⟩, -⟩ := h.2 k hk
  unfold openR
  refine inv_lose ?_ hk
  split
  · exact inv_give h ht g1 (by omega)
  · exact inv_bad h ht g1 (by omega)
end CQ
