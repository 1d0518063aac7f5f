/-! the plain law: queries from the lasting relation -/
set_option maxRecDepth 100000
/-- what the law writes and the twin's cells keep; so much is new -/
def fC (ot o c m : Nat) (σ σ' : vv_S) : Prop := (σ.2.1 ≤ σ'.2.1 ∧ σ'.2.1 ≤ σ.2.1 + c ∧ σ.2.2 ≤ σ'.2.2 ∧ σ'.2.2 ≤ σ.2.2 + m) ∧ σ'.1 ot = σ.1 ot ∧ ∀ q, o ≤ q → q < o + 34 → σ'.1 q = σ.1 q
theorem fC.rf {ot o : Nat} {σ : vv_S} : fC ot o 0 0 σ σ := ⟨⟨Nat.le_refl _, Nat.le_refl _, Nat.le_refl _, Nat.le_refl _⟩, rfl, fun _ _ _ => rfl⟩
theorem fC.tr {ot o c m c' m' : Nat} {σ σ1 σ2 : vv_S} (h1 : fC ot o c m σ σ1) (h2 : fC ot o c' m' σ1 σ2) : fC ot o (c + c') (m + m') σ σ2 := ⟨by have := h1.1; have := h2.1; omega, h2.2.1.trans h1.2.1, fun q a b => (h2.2.2 q a b).trans (h1.2.2 q a b)⟩
theorem fC.mo {ot o c m c' m' : Nat} {σ σ' : vv_S} (h : fC ot o c m σ σ') (hc : c ≤ c') (hm : m ≤ m') : fC ot o c' m' σ σ' := ⟨by have := h.1; omega, h.2⟩
abbrev fX (ot o : Nat) (σ σ' : vv_S) : Prop := fC ot o 18000 85000 σ σ'
/-- both answer alike -/
def opA (ad : Nat → Nat) (hC : Nat → Option vv_E) (x0 ot o : Nat) (cs : List (String × Int32)) (σ : vv_S) (k : Option (hX (Int32 × vv_S))) (j : Option (Int32 × tw_T)) : Prop :=
  (∃ v σ' T', k = some (.inl (v, σ')) ∧ j = some (v, T') ∧ T'.1 0 = 0 ∧ RL ad hC x0 ot o σ' T' ∧ fX ot o σ σ') ∨
  ∃ C c q σ' w T', (C, c) ∈ cs ∧ k = some (.inr ((C, q), σ')) ∧ j = some (w, T') ∧ T'.1 0 = c ∧ RL ad hC x0 ot o σ' T' ∧ fX ot o σ σ'
/-- both answer alike, nothing is thrown -/
def op0 (ad : Nat → Nat) (hC : Nat → Option vv_E) (x0 ot o : Nat) (σ : vv_S) (k : Option (Int32 × vv_S)) (j : Option (Int32 × tw_T)) : Prop :=
  ∃ v σ' T', k = some (v, σ') ∧ j = some (v, T') ∧ RL ad hC x0 ot o σ' T' ∧ fX ot o σ σ'
section RQ
variable {ad a own : Nat → Nat} {hC h0 : Nat → Option vv_E} {P : pvT} {R : Nat → Int32} {lo : Int32} {n : Nat} {A : Nat → Nat → Int32} {S : seT} {tp : Nat} {i5 : Int32} {v9 v10 v11 : Value} {sd : Int32} {σ σ' : vv_S} {T T' : tw_T} {cs : List (String × Int32)} {k : Option (hX (Int32 × vv_S))} {j : Option (Int32 × tw_T)}
theorem fC.of {D : Nat → Prop} {c m : Nat} (f : fa (fun q => D (own q)) c m σ σ') (ho : okO ad a own σ.2.1) (h1 : ¬ D 22) (h2 : ¬ D 23) : fC (a 21) (a 22) c m σ σ' :=
  ⟨f.1, f.2 _ ho.m21.2 (by show ¬ D (own (a 21)); rw [ho.m21.1]; exact h1), fun q a1 a2 => f.2 q (ho.m22 ⟨a1, a2⟩).2 (by show ¬ D (own q); rw [(ho.m22 ⟨a1, a2⟩).1]; exact h2)⟩
theorem fX.of {D : Nat → Prop} {c m : Nat} (f : fa (fun q => D (own q)) c m σ σ') (ho : okO ad a own σ.2.1) (h1 : ¬ D 22) (h2 : ¬ D 23) (hc : c ≤ 18000) (hm : m ≤ 85000) : fX (a 21) (a 22) σ σ' := (fC.of f ho h1 h2).mo hc hm
/-- a step that changes what queries may change -/
theorem Rl.go {D : Nat → Prop} {c m : Nat} (H : Rl ad hC a own h0 P R lo n A S tp i5 v9 v10 v11 sd σ T) (f : fa (fun q => D (own q)) c m σ σ') (hD : ∀ t, D t → t = 1 ∨ t = 13 ∨ t = 14) (hv : okV σ' (a 0)) (hU : rlU a σ') (g : jq T T') : Rl ad hC a own h0 P R lo n A S tp i5 v9 v10 v11 sd σ' T' := by
  obtain ⟨hM, hX, hP, hc, -, hT, hF, hA, hS, hI, hJ⟩ := H
  have no : ∀ t, ¬ (t = 1 ∨ t = 13 ∨ t = 14) → ¬ D t := fun t ht h => ht (hD t h)
  have kp : ∀ t, ¬ (t = 1 ∨ t = 13 ∨ t = 14) → Kp own t σ σ' := fun t ht => fa.kp (own := own) f (no t ht)
  have hM' := hM.k f (no 0 (by omega))
  exact ⟨hM', (kp 21 (by omega) _ hM.1.m20.2 hM.1.m20.1).trans hX, hP, ⟨hv, hc.2.1.ke fun q a1 a2 => kp 3 (by omega) q (hM.1.m2 ⟨a1, a2⟩).2 (hM.1.m2 ⟨a1, a2⟩).1, hc.2.2⟩, hU, hT.k hM.1 (kp 4 (by omega)) (g.2.1 8 (by omega)), hF.k hM.1 (kp 7 (by omega)) (g.2.1 9 (by omega)), hA.k hM hM' (kp 8 (by omega)) (kp 18 (by omega)), hS.k hM hM' (kp 9 (by omega)) (kp 19 (by omega)), hI.k (fun k h1 h2 => g.1 k (by omega)) (fun r h1 h2 => g.2.1 r (by omega)) (g.1 1 (by omega)) (g.1 3 (by omega)), hJ.q g⟩
theorem fa.o0 {c m : Nat} (f : fa (fun q => q = a 0) c m σ σ') (ho : okO ad a own σ.2.1) : fa (fun q => (fun t => t = 1) (own q)) c m σ σ' := f.mo (fun q hq => by show own q = 1; rw [hq]; exact ho.m0.1) (Nat.le_refl _) (Nat.le_refl _)
theorem Rl.q {c m : Nat} (H : Rl ad hC a own h0 P R lo n A S tp i5 v9 v10 v11 sd σ T) (f : fa (fun q => q = a 0) c m σ σ') (hv : okV σ' (a 0)) (g : jq T T') : Rl ad hC a own h0 P R lo n A S tp i5 v9 v10 v11 sd σ' T' := by
  have hM := H.1
  have hU := H.2.2.2.2.1
  have f' := f.o0 hM.1
  exact H.go (D := fun t => t = 1) f' (fun t h => Or.inl h) hv (hU.k hM.1 (fa.kp (D := fun t => t = 1) (own := own) f' (by simp)) (fa.kp (D := fun t => t = 1) (own := own) f' (by simp))) g
/-- queries -/
theorem ans.rl {x0 ot o c m : Nat} (h : RL ad hC x0 ot o σ T) (hc : c ≤ 18000) (hm : m ≤ 85000) (hq : ∀ pa va ca h0 P R lo, isQ x0 h0 pa va ca P R lo σ T → wyP P → cnH x0 σ T → ans va c m cs σ T k j) : opA ad hC x0 ot o cs σ k j := by
  obtain ⟨a, own, h0, P, R, lo, n, A, S, tp, i5, v9, v10, v11, sd, e1, e2, e3, H⟩ := h
  subst e1 e2 e3
  rcases hq _ _ _ _ _ _ _ H.isQ H.2.2.1.2.2.2 H.cnH with ⟨v, σ1, T1, k1, j1, z1, f1, o1, g1⟩ | ⟨C, e, q, σ1, w, T1, m1, k1, j1, z1, f1, o1, g1⟩
  · exact Or.inl ⟨v, σ1, T1, k1, j1, z1, ⟨a, own, h0, P, R, lo, n, A, S, tp, i5, v9, v10, v11, sd, rfl, rfl, rfl, H.q f1 o1 g1⟩, fX.of (D := fun t => t = 1) (own := own) (f1.o0 H.1.1) H.1.1 (by simp) (by simp) hc hm⟩
  · exact Or.inr ⟨C, e, q, σ1, w, T1, m1, k1, j1, z1, ⟨a, own, h0, P, R, lo, n, A, S, tp, i5, v9, v10, v11, sd, rfl, rfl, rfl, H.q f1 o1 g1⟩, fX.of (D := fun t => t = 1) (own := own) (f1.o0 H.1.1) H.1.1 (by simp) (by simp) hc hm⟩
theorem ans0.rl {x0 ot o c m : Nat} {k : Option (Int32 × vv_S)} (h : RL ad hC x0 ot o σ T) (hc : c ≤ 18000) (hm : m ≤ 85000) (hq : ∀ pa va ca h0 P R lo, isQ x0 h0 pa va ca P R lo σ T → wyP P → ans0 va c m σ T k j) : op0 ad hC x0 ot o σ k j := by
  obtain ⟨a, own, h0, P, R, lo, n, A, S, tp, i5, v9, v10, v11, sd, e1, e2, e3, H⟩ := h
  subst e1 e2 e3
  obtain ⟨v, σ1, T1, k1, j1, f1, o1, g1⟩ := hq _ _ _ _ _ _ _ H.isQ H.2.2.1.2.2.2
  exact ⟨v, σ1, T1, k1, j1, ⟨a, own, h0, P, R, lo, n, A, S, tp, i5, v9, v10, v11, sd, rfl, rfl, rfl, H.q f1 o1 g1⟩, fX.of (D := fun t => t = 1) (own := own) (f1.o0 H.1.1) H.1.1 (by simp) (by simp) hc hm⟩
theorem RL.spoilt {x0 ot o : Nat} (h : RL ad hC x0 ot o σ T) : ∃ v T', KX1_spoilt x0 σ = some v ∧ J_spoilt T = some (v, T') ∧ RL ad hC x0 ot o σ T' := by
  obtain ⟨a, own, h0, P, R, lo, n, A, S, tp, i5, v9, v10, v11, sd, e1, e2, e3, H⟩ := h
  subst e1 e2 e3
  obtain ⟨v, T1, k1, j1, g1⟩ := o_spoilt H.isQ
  exact ⟨v, T1, k1, j1, ⟨a, own, h0, P, R, lo, n, A, S, tp, i5, v9, v10, v11, sd, rfl, rfl, rfl, H.q fa.rf H.2.2.2.1.1 g1⟩⟩
theorem RL.wq {x0 ot o c m : Nat} (h : RL ad hC x0 ot o σ T) (hc : c ≤ 18000) (hm : m ≤ 85000) (hq : ∀ pa va ca tc lu h0 P R lo S, wQ σ.2.1 x0 h0 pa va ca tc lu P R lo S σ T → adK h0 ad σ.2.1 → ansG (coX tc va lu) c m cs (wQ σ.2.1 x0 h0 pa va ca tc lu P R lo S) σ T k j) : opA ad hC x0 ot o cs σ k j := by
  obtain ⟨a, own, h0, P, R, lo, n, A, S, tp, i5, v9, v10, v11, sd, e1, e2, e3, H⟩ := h
  subst e1 e2 e3
  have ho := H.1.1
  have cv : ∀ {σ' : vv_S}, fa (coX (a 12) (a 0) (a 13)) c m σ σ' → fa (fun q => (fun t => t = 1 ∨ t = 13 ∨ t = 14) (own q)) c m σ σ' := fun f => ⟨f.1, fun q h1 h2 => f.2 q h1 fun h3 => h2 (by
    show own q = 1 ∨ own q = 13 ∨ own q = 14
    rcases h3 with (h3 | h3) | h3
    · exact Or.inr (Or.inl (ho.m12 h3).1)
    · rw [h3]; exact Or.inl ho.m0.1
    · rw [h3]; exact Or.inr (Or.inr ho.m13.1))⟩
  rcases hq _ _ _ _ _ _ _ _ _ _ H.wQ H.1.aK with ⟨v, σ1, T1, k1, j1, z1, f1, W, g1⟩ | ⟨C, e, q, σ1, w, T1, m1, k1, j1, z1, f1, W, g1⟩
  · exact Or.inl ⟨v, σ1, T1, k1, j1, z1, ⟨a, own, h0, P, R, lo, n, A, S, tp, i5, v9, v10, v11, sd, rfl, rfl, rfl, H.go (D := fun t => t = 1 ∨ t = 13 ∨ t = 14) (cv f1) (fun _ h => h) W.1.1.ov ⟨W.2.2.1, W.2.2.2.1⟩ g1⟩, fX.of (D := fun t => t = 1 ∨ t = 13 ∨ t = 14) (own := own) (cv f1) ho (by simp) (by simp) hc hm⟩
  · exact Or.inr ⟨C, e, q, σ1, w, T1, m1, k1, j1, z1, ⟨a, own, h0, P, R, lo, n, A, S, tp, i5, v9, v10, v11, sd, rfl, rfl, rfl, H.go (D := fun t => t = 1 ∨ t = 13 ∨ t = 14) (cv f1) (fun _ h => h) W.1.1.ov ⟨W.2.2.1, W.2.2.2.1⟩ g1⟩, fX.of (D := fun t => t = 1 ∨ t = 13 ∨ t = 14) (own := own) (cv f1) ho (by simp) (by simp) hc hm⟩
theorem RL.years {x0 ot o : Nat} (h : RL ad hC x0 ot o σ T) (x1 x2 x3 : Int32) : opA ad hC x0 ot o [(nse, nI 1), (iae, nI 2)] σ (KX1_years (KX_fo 80) x0 x1 x2 x3 σ) (J_years x1 x2 x3 T) := by
  obtain ⟨a, own, h0, P, R, lo, n, A, S, tp, i5, v9, v10, v11, sd, e1, e2, e3, H⟩ := h
  subst e1 e2 e3
  have ho := H.1.1
  rcases o_years H.isQ H.2.1 rfl (H.1.2.1.no (by rw [ho.m20.1]; omega)) x1 x2 x3 with ⟨v, σ1, T1, k1, j1, z1, ⟨s, hs⟩, f1, o1, g1⟩ | ⟨C, e, q, σ1, w, T1, m1, k1, j1, z1, f1, o1, g1⟩
  · have f2 : fa (fun q => (fun t => t = 1 ∨ t = 21) (own q)) 20 200 σ σ1 := ⟨f1.1, fun q h1 h2 => f1.2 q h1 fun h3 => h2 (by
      show own q = 1 ∨ own q = 21
      rcases h3 with h3 | h3
      · rw [h3]; exact Or.inl ho.m0.1
      · rw [h3]; exact Or.inr ho.m20.1)⟩
    refine Or.inl ⟨v, σ1, T1, k1, j1, z1, ⟨a, own, h0, P, R, lo, n, A, S, tp, i5, v9, v10, v11, s, rfl, rfl, rfl, ?_⟩, fX.of (D := fun t => t = 1 ∨ t = 21) (own := own) f2 ho (by simp) (by simp) (by omega) (by omega)⟩
    obtain ⟨hM, hX, hP, hc, hU, hT, hF, hA, hS, hI, hJ⟩ := H
    have kp : ∀ t, ¬ (t = 1 ∨ t = 21) → Kp own t σ σ1 := fun t ht => fa.kp (D := fun t => t = 1 ∨ t = 21) (own := own) f2 ht
    have hM' := hM.k (D := fun t => t = 1 ∨ t = 21) f2 (by simp)
    exact ⟨hM', hs, hP, ⟨o1, hc.2.1.ke fun q a1 a2 => kp 3 (by omega) q (hM.1.m2 ⟨a1, a2⟩).2 (hM.1.m2 ⟨a1, a2⟩).1, hc.2.2⟩, hU.k ho (kp 13 (by omega)) (kp 14 (by omega)), hT.k hM.1 (kp 4 (by omega)) (g1.2.1 8 (by omega)), hF.k hM.1 (kp 7 (by omega)) (g1.2.1 9 (by omega)), hA.k hM hM' (kp 8 (by omega)) (kp 18 (by omega)), hS.k hM hM' (kp 9 (by omega)) (kp 19 (by omega)), hI.k (fun k h1 h2 => g1.1 k (by omega)) (fun r h1 h2 => g1.2.1 r (by omega)) (g1.1 1 (by omega)) (g1.1 3 (by omega)), hJ.q g1⟩
  · exact Or.inr ⟨C, e, q, σ1, w, T1, m1, k1, j1, z1, ⟨a, own, h0, P, R, lo, n, A, S, tp, i5, v9, v10, v11, sd, rfl, rfl, rfl, H.q f1 o1 g1⟩, fX.of (D := fun t => t = 1) (own := own) (f1.o0 H.1.1) H.1.1 (by simp) (by simp) (by omega) (by omega)⟩
end RQ
