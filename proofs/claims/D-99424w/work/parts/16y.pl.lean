/-! the plain law: what was seen, both tries -/
set_option maxRecDepth 100000
section SP
variable {σ : vv_S} {T : tw_T} {x0 pa va ca tc lu a : Nat} {h0 : Nat → Option vv_E} {P : pvT} {R R0 : Nat → Int32} {lo : Int32} {f : Nat → Int32} {x1 : Int32} {d : Nat}
/-- the crate to be opened lies -/
def lvO (P : pvT) (x1 : Int32) (R : Nat → Int32) : Prop := x1 = -1 ∨ ∃ k t, k < P.1.2.2 ∧ t < P.1.1 ∧ x1 = nI k ∧ R (55 + k) = nI t ∧ R (65 + k) = 0
/-- both tries before day j -/
def uB (x0 : Nat) (h0 : Nat → Option vv_E) (pa va tc lu : Nat) (P : pvT) (x1 : Int32) (d : Nat) (R0 : Nat → Int32) (j : Nat) (R f : Nat → Int32) (σ : vv_S) (T : tw_T) : Prop := bS x0 h0 pa va P tc R σ T ∧ isU x0 tc lu h0 σ ∧ isLu σ lu f ∧ (j ≤ d → lvO P x1 R) ∧ (∀ t, P.1.1 ≤ t → t < 8 → R (1 + t) = R0 (1 + t)) ∧ (∀ i t, i < j → t < P.1.1 → T.2.2 29 (8 * i + t) = f (8 * i + t)) ∧ ∀ i t, i < j → P.1.1 ≤ t → t < 8 → f (8 * i + t) = R0 (1 + t)
def isT8 (T T' : tw_T) : Prop := jq T T' ∧ T'.1 0 = T.1 0 ∧ T'.2.2 30 = T.2.2 30
theorem isT8.rf {T : tw_T} : isT8 T T := ⟨jq.rf, rfl, rfl⟩
theorem isT8.tr {T T1 T2 : tw_T} (h1 : isT8 T T1) (h2 : isT8 T1 T2) : isT8 T T2 := ⟨h1.1.tr h2.1, h2.2.1.trans h1.2.1, h2.2.2.trans h1.2.2⟩
theorem isT8.jf {T T' : tw_T} (h : jfr 85 T T') : isT8 T T' := ⟨jq.jf h, h.z, h.2.2.1 30 (by decide) (by decide) (by decide)⟩
/-- what is left when both tried -/
def uE (x0 : Nat) (h0 : Nat → Option vv_E) (pa va tc lu : Nat) (P : pvT) (R0 : Nat → Int32) (f : Nat → Int32) (σ : vv_S) (T : tw_T) : Prop := isEnv σ x0 h0 pa va P ∧ (∃ R lo, isCo σ x0 tc R lo) ∧ isU x0 tc lu h0 σ ∧ isLu σ lu f ∧ isTp T P ∧ (∀ i t, i ≤ 30 → t < P.1.1 → T.2.2 29 (8 * i + t) = f (8 * i + t)) ∧ ∀ i t, i ≤ 30 → P.1.1 ≤ t → t < 8 → f (8 * i + t) = R0 (1 + t)
theorem so_day (cx : six P ∧ invP P) (k14 : Nat → Int32 → Int32 → Int32 → vv_S → Option (Int32 × vv_S)) (k6 : Int32 → Int32 → Int32 → tw_T → Option (Int32 × tw_T)) {j : Nat} (hj : j ≤ 30) (x2 : Int32) (B : bS x0 h0 pa va P tc R σ T) (U : isU x0 tc lu h0 σ) (L : isLu σ lu f) (hv : j + 1 ≤ d → lvO P x1 R) (hR : ∀ t, P.1.1 ≤ t → t < 8 → R (1 + t) = R0 (1 + t)) (hf : ∀ i t, i < j → t < P.1.1 → T.2.2 29 (8 * i + t) = f (8 * i + t)) (hg : ∀ i t, i < j → P.1.1 ≤ t → t < 8 → f (8 * i + t) = R0 (1 + t)) : ∃ σ' T' f', KX1_isSoBy_39 (KX_fo 80) k14 x0 x1 x2 (nI j) σ = k14 x0 x1 x2 (nI (j + 1)) σ' ∧ J_isSeen_29 k6 x1 x2 (nI j) T = k6 x1 x2 (nI (j + 1)) T' ∧ uB x0 h0 pa va tc lu P x1 d R0 (j + 1) (dayR P R).1 f' σ' T' ∧ fr (coX tc va lu) σ σ' ∧ isT8 T T' := by
  obtain ⟨lo, H, C, r, p, hI⟩ := id B
  have h8 := ev_8 H
  have h10 := ev_10 H
  obtain ⟨σ1, f1, s1, H1, C1, U1, L1, e1, n1, g1⟩ := K_rec x1 x2 k14 hj 8 0 NN σ f H C U L (by omega) (by unfold NN; omega)
  obtain ⟨T1, u1, e2, n2, g2⟩ := J_rec x1 x2 k6 h8 hj P.1.1 0 NN T r p (by omega) (by unfold NN; omega)
  have r1 : isRw T1 85 R := r.of (g2.2 20 (by decide)) (congrFun g2.1 1) (congrFun g2.1 3)
  have p1 : isTp T1 P := p.jq g2.q
  obtain ⟨σ2, T2, s2, u2, B2, -, -, f2, g3⟩ := dayB (P := P) cx U.2.2.1 ⟨lo, H1, C1, r1, p1, hI⟩
  have hlu : ¬ coV tc va lu := fun h => h.elim (fun h => lu_co C1 L1 h) (fun h => lu_va H1 L1 h.symm)
  have hxx : ¬ coV tc va x0 := fun h => h.elim (fun h => ev_xco H1 C1 h) (fun h => va_x H1 h)
  have a29 : T2.2.2 29 = T1.2.2 29 := g3.2.2.1 29 (by decide) (by decide) (by decide)
  refine ⟨σ2, T2, f1, ?_, ?_, ⟨B2, U1.k (f2.2 x0 hxx), (f2.2 lu hlu).trans L1, fun hjd => ?_, fun t h1 h2 => ?_, fun i t h1 h2 => ?_, fun i t h1 h2 h3 => ?_⟩, (g1.mo fun q hq => Or.inr hq).tr (f2.mo fun q hq => Or.inl hq), g2.q.tr (jq.jf g3), g3.z.trans (congrFun g2.1 0), (g3.2.2.1 30 (by decide) (by decide) (by decide)).trans (g2.2 30 (by decide))⟩
  · unfold KX1_isSoBy_39
    rw [s1, s2]
    rfl
  · unfold J_isSeen_29
    rw [u1, u2]
    rfl
  · rcases hv hjd with h | ⟨k, t, k1, k2, k3, k4, k5⟩
    · exact Or.inl h
    · refine Or.inr ⟨k, t, k1, k2, k3, ?_, ?_⟩
      · rw [day_q (by omega) (fun t ht => by omega) (fun q hq => ⟨by omega, fun e => by omega⟩)]
        exact k4
      · rw [day_q (by omega) (fun t ht => by omega) (fun q hq => ⟨by omega, fun e => by rw [k5]; decide⟩)]
        exact k5
  · rw [day_q (by omega) (fun u hu => by omega) (fun q hq => ⟨by omega, fun e => by omega⟩)]
    exact hR t h1 h2
  · rw [a29]
    by_cases e : i = j
    · subst e
      rw [e2 t (by omega) h2, e1 t (by omega) (by omega)]
    · rw [n2 _ (by omega), n1 _ (by omega)]
      exact hf i t (by omega) h2
  · by_cases e : i = j
    · subst e
      rw [e1 t (by omega) h3]
      exact hR t h2 h3
    · rw [n1 _ (by omega)]
      exact hg i t (by omega) h2 h3
theorem so_loop (cx : six P ∧ invP P) (hd : d < 2 ^ 30) : ∀ (c j n : Nat) (σ : vv_S) (T : tw_T) (R f : Nat → Int32), uB x0 h0 pa va tc lu P x1 d R0 j R f σ T → j + c = 31 → c < n → ∃ σ' T' f', KX1_isSoBy_14 (KX_fo 80) n x0 x1 (nI d) (nI j) σ = KX1_isSoBy_94 (KX_fo 80) NN x0 (nI 0) σ' ∧ J_isSeen_6 n x1 (nI d) (nI j) T = J_isSeen_83 NN (nI 0) T' ∧ uE x0 h0 pa va tc lu P R0 f' σ' T' ∧ fr (coX tc va lu) σ σ' ∧ isT8 T T' := by
  intro c
  induction c with
  | zero =>
    intro j n σ T R f B hi hn
    obtain ⟨n, rfl⟩ : ∃ m, n = m + 1 := ⟨n - 1, by omega⟩
    obtain ⟨⟨lo, H, C, r, p, hI⟩, U, L, -, -, b1, b2⟩ := B
    refine ⟨σ, T, f, ?_, ?_, ⟨H, ⟨R, lo, C⟩, U, L, p, fun i t h1 h2 => b1 i t (by omega) h2, fun i t h1 h2 h3 => b2 i t (by omega) h2 h3⟩, fr.rf, isT8.rf⟩
    · show BKX1_isSoBy_14 (KX_fo 80) (KX1_isSoBy_14 (KX_fo 80) n) x0 x1 (nI d) (nI j) σ = _
      unfold BKX1_isSoBy_14
      rw [if_pos (nI_lt (show 30 < j by omega) (by omega))]
    · show B_isSeen_6 (J_isSeen_6 n) x1 (nI d) (nI j) T = _
      unfold B_isSeen_6
      rw [if_pos (nI_lt (show 30 < j by omega) (by omega))]
  | succ c ih =>
    intro j n σ T R f B hi hn
    obtain ⟨n, rfl⟩ : ∃ m, n = m + 1 := ⟨n - 1, by omega⟩
    have hj : j ≤ 30 := by omega
    obtain ⟨B0, U, L, hv, hR, b1, b2⟩ := B
    show ∃ σ' T' f', BKX1_isSoBy_14 (KX_fo 80) (KX1_isSoBy_14 (KX_fo 80) n) x0 x1 (nI d) (nI j) σ = _ ∧ B_isSeen_6 (J_isSeen_6 n) x1 (nI d) (nI j) T = _ ∧ _
    unfold BKX1_isSoBy_14 B_isSeen_6
    rw [if_neg (nI_nlt (show j ≤ 30 by omega) (by omega)), if_neg (nI_nlt (show j ≤ 30 by omega) (by omega))]
    -- a day, whether or not one was opened
    have go : ∀ (σ1 : vv_S) (T1 : tw_T) (R1 : Nat → Int32), bS x0 h0 pa va P tc R1 σ1 T1 → isU x0 tc lu h0 σ1 → isLu σ1 lu f → (j + 1 ≤ d → lvO P x1 R1) → (∀ t, P.1.1 ≤ t → t < 8 → R1 (1 + t) = R0 (1 + t)) → T1.2.2 29 = T.2.2 29 → fr (coX tc va lu) σ σ1 → isT8 T T1 → ∃ σ' T' f', KX1_isSoBy_39 (KX_fo 80) (KX1_isSoBy_14 (KX_fo 80) n) x0 x1 (nI d) (nI j) σ1 = KX1_isSoBy_94 (KX_fo 80) NN x0 (nI 0) σ' ∧ J_isSeen_29 (J_isSeen_6 n) x1 (nI d) (nI j) T1 = J_isSeen_83 NN (nI 0) T' ∧ uE x0 h0 pa va tc lu P R0 f' σ' T' ∧ fr (coX tc va lu) σ σ' ∧ isT8 T T' := by
      intro σ1 T1 R1 B1 U1 L1 v1 e1 e29 f1 g1
      obtain ⟨σ2, T2, f2, s2, u2, B2, fr2, g2⟩ := so_day cx (KX1_isSoBy_14 (KX_fo 80) n) (J_isSeen_6 n) hj (nI d) B1 U1 L1 v1 e1 (fun i t h1 h2 => by rw [e29]; exact b1 i t h1 h2) b2
      obtain ⟨σ3, T3, f3, s3, u3, E3, fr3, g3⟩ := ih (j + 1) n σ2 T2 _ _ B2 (by omega) (by omega)
      exact ⟨σ3, T3, f3, s2.trans s3, u2.trans u3, E3, (f1.tr fr2).tr fr3, (g1.tr g2).tr g3⟩
    by_cases h1 : x1 = -1
    · rw [if_pos h1, if_pos h1]
      exact go σ T R B0 U L (fun _ => Or.inl h1) hR rfl fr.rf isT8.rf
    · rw [if_neg h1, if_neg h1]
      by_cases h2 : j = d
      · subst h2
        rw [if_pos rfl, if_pos rfl]
        obtain ⟨k, t, k1, k2, rfl, k4, k5⟩ := (hv (Nat.le_refl _)).resolve_left h1
        obtain ⟨lo, H, C, r, p, hI⟩ := B0
        have h8 := ev_8 H
        have h10 := ev_10 H
        have kc := k1
        have k1 : k < 10 := by omega
        obtain ⟨σ1, s1, C1, f1⟩ := K_open C k1 (show t < 8 by omega) k4
        obtain ⟨T1, u1, r1, z1, g1⟩ := J_opens_e r (by omega) hI p h8 (ev_10 H) kc (show t < P.1.1 by omega) k4 k5
        have hlu : ¬ coA tc lu := lu_co C L
        simp only [U.1, co_o C, s1, u1, bdS]
        exact go σ1 T1 _ ⟨lo, ev_co H C U.2.2.1 f1, C1, r1, p.jf g1, inv_open hI k1 (by omega)⟩ (U.k (f1.2 x0 (ev_xco H C))) ((f1.2 lu hlu).trans L) (fun h => by omega) (fun u h1 h2 => by
          rw [open_q (by omega) (by omega) (by omega) (by omega) (by omega)]
          exact hR u h1 h2) (g1.2.2.1 29 (by decide) (by decide) (by decide)) (f1.mo fun q hq => Or.inl (Or.inl hq)) (isT8.jf g1)
      · rw [if_neg (nI_nn h2 (by omega) (by omega)), if_neg (nI_nn h2 (by omega) (by omega))]
        exact go σ T R B0 U L (fun h => hv (by omega)) hR rfl fr.rf isT8.rf
end SP
