/-! the plain law: which town to look at next, both -/
set_option maxRecDepth 100000
section NZ
variable {σ : vv_S} {T : tw_T} {x0 pa va ca tc lu a B l : Nat} {h0 : Nat → Option vv_E} {P : pvT} {R R0 : Nat → Int32} {lo : Int32} {f : Nat → Int32} {d : Nat} {S : seT} {ad : Nat → Nat}
theorem nx_in (hA : adK h0 ad B) {k : Nat} (hk : k < P.1.2.2) (h10 : P.1.2.2 ≤ 10) (k15 : Nat → Int32 → Nat → Int32 → vv_S → Option (hX (Int32 × vv_S))) (x1 : Int32) (nJ : Nat) : ∀ (c d nK : Nat) (σ : vv_S) (T : tw_T) (n e : Nat) (g : Nat → Nat) (G : Nat → Nat → Int32), nxI B x0 h0 pa va ca tc lu P R lo S ad l (10 * k + d) n e g G σ T → T.1 0 = 0 → d + c = 10 → c < nK → ∃ σ' T' n' e' g' G', KX1_next_29 (KX_fo 80) ad k15 nK x0 x1 l (nI k) (nI d) σ = k15 x0 x1 l (nI (k + 1)) σ' ∧ J_next_20 (nJ + c) x1 (nI n) (nI (10 * k + d)) T = J_next_20 nJ x1 (nI n') (nI (10 * (k + 1))) T' ∧ nxI B x0 h0 pa va ca tc lu P R lo S ad l (10 * (k + 1)) n' e' g' G' σ' T' ∧ grw (3 * c) B (coX tc va lu) σ σ' ∧ jy T T' := by
  intro c
  induction c with
  | zero =>
    intro d nK σ T n e g G I hz hi hn
    obtain ⟨nK, rfl⟩ : ∃ m, nK = m + 1 := ⟨nK - 1, by omega⟩
    obtain rfl : d = 10 := by omega
    refine ⟨σ, T, n, e, g, G, ?_, rfl, I, ⟨by omega, fun _ _ _ => rfl⟩, jy.rf⟩
    show BKX1_next_29 (KX_fo 80) ad k15 (KX1_next_29 (KX_fo 80) ad k15 nK) x0 x1 l (nI k) (nI 10) σ = _
    unfold BKX1_next_29
    rw [if_pos (nI_le (Nat.le_refl _) (by omega)), nI_add]
  | succ c ih =>
    intro d nK σ T n e g G I hz hi hn
    obtain ⟨nK, rfl⟩ : ∃ m, nK = m + 1 := ⟨nK - 1, by omega⟩
    obtain ⟨σ1, T1, n1, e1, g1, G1, s1, u1, I1, r1, t1⟩ := nx_step hA hk (show d < 10 by omega) (by omega) I hz k15 x1 nK (nJ + c)
    obtain ⟨σ2, T2, n2, e2, g2, G2, s2, u2, I2, r2, t2⟩ := ih (d + 1) nK σ1 T1 n1 e1 g1 G1 I1 (t1.2.trans hz) (by omega) (by omega)
    refine ⟨σ2, T2, n2, e2, g2, G2, s1.trans s2, u1.trans u2, I2, ?_, t1.tr t2⟩
    have r3 := r1.tr r2
    rw [show 3 + 3 * c = 3 * (c + 1) by omega] at r3
    exact r3
theorem nx_out (hA : adK h0 ad B) (h10 : P.1.2.2 ≤ 10) (x1 : Int32) : ∀ (c k nK nJ : Nat) (σ : vv_S) (T : tw_T) (n e : Nat) (g : Nat → Nat) (G : Nat → Nat → Int32), nxI B x0 h0 pa va ca tc lu P R lo S ad l (10 * k) n e g G σ T → T.1 0 = 0 → k + c = P.1.2.2 → c < nK → ∃ σ' T' v, KX1_next_15 (KX_fo 80) ad nK x0 x1 l (nI k) σ = some (.inl (v, σ')) ∧ J_next_20 (nJ + 1 + 10 * c) x1 (nI n) (nI (10 * k)) T = some (v, T') ∧ wQ B x0 h0 pa va ca tc lu P R lo S σ' T' ∧ grw (30 * c) B (coX tc va lu) σ σ' ∧ jy T T' := by
  intro c
  induction c with
  | zero =>
    intro k nK nJ σ T n e g G I hz hi hn
    obtain ⟨nK, rfl⟩ : ∃ m, nK = m + 1 := ⟨nK - 1, by omega⟩
    have Q := I.1.1
    have GI := I.2.2.2.2.2.1
    have hn100 := GI.1
    obtain ⟨v, s1, u1⟩ := nx_127 (ad := ad) GI (ev_8 Q.1) Q.tp (I.2.1.li (by omega)) x1 31 0 NN NN (-1) (nI 0) (by omega) (by unfold NN; omega) (by unfold NN; omega)
    refine ⟨σ, T, v, ?_, ?_, I.1, ⟨by omega, fun _ _ _ => rfl⟩, jy.rf⟩
    · show BKX1_next_15 (KX_fo 80) ad (KX1_next_15 (KX_fo 80) ad nK) x0 x1 l (nI k) σ = _
      unfold BKX1_next_15
      simp only [ev_pa Q.1, ev_cr Q.1, bdS]
      rw [if_pos (nI_le (by omega) (by omega))]
      exact s1
    · show B_next_20 (J_next_20 nJ) x1 (nI n) (nI (10 * k)) T = _
      unfold B_next_20
      rw [Q.tp.2.2.1, pk_mul, if_pos (nI_le (by omega) (by omega))]
      exact u1
  | succ c ih =>
    intro k nK nJ σ T n e g G I hz hi hn
    obtain ⟨nK, rfl⟩ : ∃ m, nK = m + 1 := ⟨nK - 1, by omega⟩
    have Q := I.1.1
    obtain ⟨σ1, T1, n1, e1, g1, G1, s1, u1, I1, r1, t1⟩ := nx_in hA (show k < P.1.2.2 by omega) h10 (KX1_next_15 (KX_fo 80) ad nK) x1 (nJ + 1 + 10 * c) 10 0 NN σ T n e g G I hz (by omega) (by unfold NN; omega)
    obtain ⟨σ2, T2, v, s2, u2, W2, r2, t2⟩ := ih (k + 1) nK nJ σ1 T1 n1 e1 g1 G1 I1 (t1.2.trans hz) (by omega) (by omega)
    refine ⟨σ2, T2, v, ?_, ?_, W2, ?_, t1.tr t2⟩
    · show BKX1_next_15 (KX_fo 80) ad (KX1_next_15 (KX_fo 80) ad nK) x0 x1 l (nI k) σ = _
      unfold BKX1_next_15
      simp only [ev_pa Q.1, ev_cr Q.1, bdS]
      rw [if_neg (nI_ge (show k < P.1.2.2 by omega) (by omega))]
      exact s1.trans s2
    · rw [show nJ + 1 + 10 * (c + 1) = nJ + 1 + 10 * c + 10 by omega]
      exact u1.trans u2
    · have r3 := r1.tr r2
      rw [show 3 * 10 + 30 * c = 30 * (c + 1) by omega] at r3
      exact r3
theorem o_next (W : wQ σ.2.1 x0 h0 pa va ca tc lu P R lo S σ T) (hA : adK h0 ad σ.2.1) (x1 : Int32) : ansG (coX tc va lu) 400 70000 [(nse, nI 1)] (wQ σ.2.1 x0 h0 pa va ca tc lu P R lo S) σ T (KX1_next (KX_fo 80) ad x0 x1 σ) (J_next x1 T) := by
  have W0 := W.j (jq.t0 (T := T) (c := nI 0))
  have hz : (tw_F T 0 (nI 0)).1 0 = 0 := F_00
  have f0 : jq T (tw_F T 0 (nI 0)) := jq.t0
  obtain ⟨T0, e0⟩ : ∃ T0, T0 = tw_F T 0 (nI 0) := ⟨_, rfl⟩
  rw [← e0] at W0 hz f0
  unfold KX1_next J_next
  rw [← e0]
  simp only [bdS]
  have hlt := W0.1.lt
  have h10 := ev_10 W0.1.1
  rcases g_what (σ := σ) (T := T0) hz x1 (m := 1) (by omega) with ⟨w, hw, rfl, k1, j1⟩ | ⟨k1, j1⟩
  · simp only [k1, j1, xbL, bdS, if_neg s1_ne]
    obtain ⟨b0, gg0, h00⟩ := hA.2.1
    have hne : ad 0 ≠ σ.2.1 := by have := hA.1; omega
    have n1 : ∀ q, q ≠ σ.2.1 → (nwO σ 11 [.int 0, .null, .int 0] 3).1 q = σ.1 q := fun q hq => up_n hq
    obtain ⟨σ1, s1, M1, fr1⟩ := K_linit (σ := nwO σ 11 [.int 0, .null, .int 0] 3) (l := σ.2.1) (ad := ad) (g := fun _ => 0) ⟨_, up_s, rfl⟩ ⟨b0, gg0, by rw [n1 _ hne]; exact W0.1.1.1 _ _ h00⟩
    have z1 : σ1.2 = (σ.2.1 + 1, σ.2.2 + 3) := fr1.1
    have k2 : ∀ q, q < σ.2.1 → σ1.1 q = σ.1 q := fun q hq => (fr1.n1 (by omega)).trans (n1 q (by omega))
    have W1 := W0.al k2 (by rw [z1]; exact Nat.le_succ _)
    obtain ⟨σ2, T2, v, s2, u2, W2, r2, t2⟩ := nx_out hA h10 (nI w) P.1.2.2 0 NN (NN - 1 - 10 * P.1.2.2) σ1 T0 0 (ad 0) (fun _ => 0) (fun _ _ => 0) ⟨W1, M1, ⟨Nat.le_refl _, by rw [z1]; exact Nat.lt_succ_self _, by rw [z1]; have := hA.1; dsimp only; omega⟩, Or.inl rfl, fun i hi => by omega, ⟨by omega, fun i hi => by omega⟩, by omega⟩ hz (by omega) (by unfold NN; omega)
    rw [show NN - 1 - 10 * P.1.2.2 + 1 + 10 * P.1.2.2 = NN by unfold NN; omega] at u2
    have u2 : J_next_20 NN (nI w) (nI 0) (nI 0) T0 = some (v, T2) := u2
    have F2 : fa (coX tc va lu) 400 70000 σ σ2 := ⟨by have := r2.1; rw [z1] at this; dsimp only at this; omega, fun q hq hD => (r2.2 q hq hD).trans (k2 q hq)⟩
    simp only [s1, s2, u2, bdS]
    exact Or.inl ⟨v, σ2, T2, rfl, rfl, t2.2.trans hz, F2, W2, f0.tr t2.1⟩
  · simp only [k1, j1, xbR, bdS, if_pos nI_0]
    refine Or.inr ⟨nse, nI 1, σ.2.1, tS σ, nI 0, _, List.mem_cons_self .., rfl, rfl, F_s, fa_tS.mo (fun _ h => h) (by omega) (by omega), ?_, f0.tr jq.t0⟩
    exact (W0.al (σ' := tS σ) (fun _ _ => rfl) (Nat.le_succ _)).j jq.t0
end NZ
