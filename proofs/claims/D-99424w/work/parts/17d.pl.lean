/-! the plain law: what may have been opened, both -/
set_option maxRecDepth 100000
/-- both answer alike; D, what may have changed; Post, what holds after -/
def ansG (D : Nat → Prop) (n m : Nat) (cs : List (String × Int32)) (Post : vv_S → tw_T → Prop) (σ : vv_S) (T : tw_T) (k : Option (hX (Int32 × vv_S))) (j : Option (Int32 × tw_T)) : Prop :=
  (∃ v σ' T', k = some (.inl (v, σ')) ∧ j = some (v, T') ∧ T'.1 0 = 0 ∧ fa D n m σ σ' ∧ Post σ' T' ∧ jq T T') ∨
  ∃ C c q σ' w T', (C, c) ∈ cs ∧ k = some (.inr ((C, q), σ')) ∧ j = some (w, T') ∧ T'.1 0 = c ∧ fa D n m σ σ' ∧ Post σ' T' ∧ jq T T'
section OD2
variable {σ : vv_S} {T : tw_T} {x0 pa va ca tc lu a B l : Nat} {h0 : Nat → Option vv_E} {P : pvT} {R R0 : Nat → Int32} {lo : Int32} {f : Nat → Int32} {d : Nat} {S : seT} {ad : Nat → Nat}
theorem op_in (hA : adK h0 ad B) {k : Nat} (hk : k < P.1.2.2) (h10 : P.1.2.2 ≤ 10) (k10 : Nat → Nat → Int32 → vv_S → Option (Nat × vv_S)) (x1 : Int32) (nJ : Nat) : ∀ (c d nK : Nat) (σ : vv_S) (T : tw_T) (w : Int32) (n e : Nat) (g : Nat → Nat), opI B x0 h0 pa va ca tc lu P R lo S ad l (10 * k + d) w n e g σ T → T.1 0 = 0 → d + c = 10 → c < nK → ∃ σ' T' w' n' e' g', KX1_openings_23 (KX_fo 80) ad k10 nK x0 l (nI k) (nI d) σ = k10 x0 l (nI (k + 1)) σ' ∧ J_opened_43 (nJ + c) x1 (nI n) w (nI (10 * k + d)) T = J_opened_43 nJ x1 (nI n') w' (nI (10 * (k + 1))) T' ∧ opI B x0 h0 pa va ca tc lu P R lo S ad l (10 * (k + 1)) w' n' e' g' σ' T' ∧ grw c B (coX tc va lu) σ σ' ∧ isT8 T T' := by
  intro c
  induction c with
  | zero =>
    intro d nK σ T w n e g I hz hi hn
    obtain ⟨nK, rfl⟩ : ∃ m, nK = m + 1 := ⟨nK - 1, by omega⟩
    obtain rfl : d = 10 := by omega
    refine ⟨σ, T, w, n, e, g, ?_, rfl, I, ⟨by omega, fun _ _ _ => rfl⟩, isT8.rf⟩
    show BKX1_openings_23 (KX_fo 80) ad k10 (KX1_openings_23 (KX_fo 80) ad k10 nK) x0 l (nI k) (nI 10) σ = _
    unfold BKX1_openings_23
    rw [if_pos (nI_le (Nat.le_refl _) (by omega)), nI_add]
  | succ c ih =>
    intro d nK σ T w n e g I hz hi hn
    obtain ⟨nK, rfl⟩ : ∃ m, nK = m + 1 := ⟨nK - 1, by omega⟩
    obtain ⟨σ1, T1, w1, n1, e1, g1, s1, u1, I1, r1, t1⟩ := op_step hA hk (show d < 10 by omega) (by omega) I hz k10 x1 nK (nJ + c)
    obtain ⟨σ2, T2, w2, n2, e2, g2, s2, u2, I2, r2, t2⟩ := ih (d + 1) nK σ1 T1 w1 n1 e1 g1 I1 (t1.2.1.trans hz) (by omega) (by omega)
    refine ⟨σ2, T2, w2, n2, e2, g2, s1.trans s2, u1.trans u2, I2, ?_, t1.tr t2⟩
    have r3 := r1.tr r2
    rw [show 1 + c = c + 1 by omega] at r3
    exact r3
theorem op_out (hA : adK h0 ad B) (h10 : P.1.2.2 ≤ 10) (x1 : Int32) : ∀ (c k nK nJ : Nat) (σ : vv_S) (T : tw_T) (w : Int32) (n e : Nat) (g : Nat → Nat), opI B x0 h0 pa va ca tc lu P R lo S ad l (10 * k) w n e g σ T → T.1 0 = 0 → k + c = P.1.2.2 → c < nK → ∃ σ' T' w' n' e' g', KX1_openings_10 (KX_fo 80) ad nK x0 l (nI k) σ = some (l, σ') ∧ J_opened_43 (nJ + 1 + 10 * c) x1 (nI n) w (nI (10 * k)) T = some (if x1 = 0 then nI n' else w', T') ∧ opI B x0 h0 pa va ca tc lu P R lo S ad l 100 w' n' e' g' σ' T' ∧ grw (10 * c) B (coX tc va lu) σ σ' ∧ isT8 T T' := by
  intro c
  induction c with
  | zero =>
    intro k nK nJ σ T w n e g I hz hi hn
    obtain ⟨nK, rfl⟩ : ∃ m, nK = m + 1 := ⟨nK - 1, by omega⟩
    have Q := I.1.1
    refine ⟨σ, T, w, n, e, g, ?_, ?_, ⟨I.1, I.2.1, I.2.2.1, I.2.2.2.1, I.2.2.2.2.1, I.2.2.2.2.2.1, by have := I.2.2.2.2.2.2; omega⟩, ⟨by omega, fun _ _ _ => rfl⟩, isT8.rf⟩
    · show BKX1_openings_10 (KX_fo 80) ad (KX1_openings_10 (KX_fo 80) ad nK) x0 l (nI k) σ = _
      unfold BKX1_openings_10
      simp only [ev_pa Q.1, ev_cr Q.1, bdS]
      rw [if_pos (nI_le (by omega) (by omega))]
    · show B_opened_43 (J_opened_43 nJ) x1 (nI n) w (nI (10 * k)) T = _
      unfold B_opened_43 J_opened_93
      rw [Q.tp.2.2.1, pk_mul, if_pos (nI_le (by omega) (by omega))]
      split <;> rfl
  | succ c ih =>
    intro k nK nJ σ T w n e g I hz hi hn
    obtain ⟨nK, rfl⟩ : ∃ m, nK = m + 1 := ⟨nK - 1, by omega⟩
    have Q := I.1.1
    obtain ⟨σ1, T1, w1, n1, e1, g1, s1, u1, I1, r1, t1⟩ := op_in hA (show k < P.1.2.2 by omega) h10 (KX1_openings_10 (KX_fo 80) ad nK) x1 (nJ + 1 + 10 * c) 10 0 NN σ T w n e g I hz (by omega) (by unfold NN; omega)
    obtain ⟨σ2, T2, w2, n2, e2, g2, s2, u2, I2, r2, t2⟩ := ih (k + 1) nK nJ σ1 T1 w1 n1 e1 g1 I1 (t1.2.1.trans hz) (by omega) (by omega)
    refine ⟨σ2, T2, w2, n2, e2, g2, ?_, ?_, I2, ?_, t1.tr t2⟩
    · show BKX1_openings_10 (KX_fo 80) ad (KX1_openings_10 (KX_fo 80) ad nK) x0 l (nI k) σ = _
      unfold BKX1_openings_10
      simp only [ev_pa Q.1, ev_cr Q.1, bdS]
      rw [if_neg (nI_ge (show k < P.1.2.2 by omega) (by omega))]
      exact s1.trans s2
    · rw [show nJ + 1 + 10 * (c + 1) = nJ + 1 + 10 * c + 10 by omega]
      exact u1.trans u2
    · have r3 := r1.tr r2
      rw [show 10 + 10 * c = 10 * (c + 1) by omega] at r3
      exact r3
theorem wQ.j {T' : tw_T} (W : wQ B x0 h0 pa va ca tc lu P R lo S σ T) (g1 : jq T T') : wQ B x0 h0 pa va ca tc lu P R lo S σ T' := W.go W.1.1 W.2.2.1 W.2.2.2.1 fr.rf g1
theorem o_opened (W : wQ σ.2.1 x0 h0 pa va ca tc lu P R lo S σ T) (hA : adK h0 ad σ.2.1) (x1 : Int32) : ansG (coX tc va lu) 200 30000 [(nse, nI 1)] (wQ σ.2.1 x0 h0 pa va ca tc lu P R lo S) σ T (KX1_opened (KX_fo 80) ad x0 x1 σ) (J_opened x1 T) := by
  have W0 := W.j (jq.t0 (T := T) (c := nI 0))
  have hz : (tw_F T 0 (nI 0)).1 0 = 0 := F_00
  have f0 : jq T (tw_F T 0 (nI 0)) := jq.t0
  obtain ⟨T0, e0⟩ : ∃ T0, T0 = tw_F T 0 (nI 0) := ⟨_, rfl⟩
  rw [← e0] at W0 hz f0
  unfold KX1_opened J_opened J_opened_35 KX1_opened_24
  rw [← e0]
  simp only [bdS]
  have hlt := W0.1.lt
  have h10 := ev_10 W0.1.1
  rcases g_what (σ := σ) (T := T0) hz x1 (m := 2) (by omega) with ⟨w, hw, rfl, k1, j1⟩ | ⟨k1, j1⟩
  · simp only [k1, j1, xbL, bdS, if_neg s1_ne, ev_x W0.1.1]
    by_cases h2 : w = 2
    · rw [if_pos (by rw [h2]), if_pos (by rw [h2])]
      obtain ⟨b, σ1, T1, f1, s1, u1, -, W1, fr1, g1⟩ := so_w (x1 := -1) (d := 0) W0 (Or.inl rfl) (by omega)
      simp only [s1, u1, bdS]
      have F1 : fa (coX tc va lu) 200 30000 σ σ1 := (fa.off fr1).mo (fun _ h => h) (by omega) (by omega)
      refine Or.inl ⟨bI b, σ1, T1, ?_, ?_, g1.2.1.trans hz, F1, W1, f0.tr g1.1⟩
      · cases b <;> rfl
      · cases b <;> rfl
    · rw [if_neg (nI_nn h2 (by omega) (by omega)), if_neg (nI_nn h2 (by omega) (by omega))]
      obtain ⟨b0, gg0, h00⟩ := hA.2.1
      have hne : ad 0 ≠ σ.2.1 := by have := hA.1; omega
      have n1 : ∀ q, q ≠ σ.2.1 → (nwO σ 11 [.int 0, .null, .int 0] 3).1 q = σ.1 q := fun q hq => up_n hq
      obtain ⟨σ1, s1, M1, fr1⟩ := K_linit (σ := nwO σ 11 [.int 0, .null, .int 0] 3) (l := σ.2.1) (ad := ad) (g := fun _ => 0) ⟨_, up_s, rfl⟩ ⟨b0, gg0, by rw [n1 _ hne]; exact W0.1.1.1 _ _ h00⟩
      have z1 : σ1.2 = (σ.2.1 + 1, σ.2.2 + 3) := fr1.1
      have k2 : ∀ q, q < σ.2.1 → σ1.1 q = σ.1 q := fun q hq => (fr1.n1 (by omega)).trans (n1 q (by omega))
      have W1 := W0.al k2 (by rw [z1]; exact Nat.le_succ _)
      obtain ⟨σ2, T2, w2, n2, e2, g2, s2, u2, I2, r2, t2⟩ := op_out hA h10 (nI w) P.1.2.2 0 NN (NN - 1 - 10 * P.1.2.2) σ1 T0 (-1) 0 (ad 0) (fun _ => 0) ⟨W1, M1, ⟨Nat.le_refl _, by rw [z1]; exact Nat.lt_succ_self _, by rw [z1]; have := hA.1; dsimp only; omega⟩, Or.inl rfl, fun i hi => by omega, Or.inl ⟨rfl, rfl⟩, by omega⟩ hz (by omega) (by unfold NN; omega)
      rw [show NN - 1 - 10 * P.1.2.2 + 1 + 10 * P.1.2.2 = NN by unfold NN; omega] at u2
      have u2 : J_opened_43 NN (nI w) (nI 0) (-1) (nI 0) T0 = some (if nI w = 0 then nI n2 else w2, T2) := u2
      have ko : KX1_openings (KX_fo 80) ad x0 σ = some (σ.2.1, σ2) := by
        unfold KX1_openings
        simp only [s1, bdS]
        exact s2
      have li := I2.2.1.li (by have := I2.2.2.2.2.2.2; omega)
      have F2 : fa (coX tc va lu) 200 30000 σ σ2 := ⟨by have := r2.1; rw [z1] at this; dsimp only at this; omega, fun q hq hD => (r2.2 q hq hD).trans (k2 q hq)⟩
      have fin : ∀ v, (if nI w = 0 then nI n2 else w2) = v → (if nI w = 0 then ((isO σ2 σ.2.1 11).bind fun _ => (KJ2_size σ.2.1 σ2).bind fun r15 => KX1_opened_69 (KX_fo 80) ad r15 σ2) else ((isO σ2 σ.2.1 11).bind fun _ => (KJ2_isEmpty σ.2.1 σ2).bind fun r7 => if r7 = 0 then ((isO σ2 σ.2.1 11).bind fun _ => (KJ2_get σ.2.1 (nI 0) σ2).bind fun r10 => (isO σ2 r10 12).bind fun _ => (isO σ2 r10 12).bind fun _ => (KJ14_intValue r10 σ2).bind fun r13 => KX1_opened_69 (KX_fo 80) ad r13 σ2) else (KX1_opened_69 (KX_fo 80) ad (-1) σ2))) = some (.inl (v, σ2)) := by
        intro v hv
        by_cases h0 : nI w = 0
        · rw [if_pos h0] at hv ⊢
          simp only [li_o li, li_size li, bdS]
          unfold KX1_opened_69
          rw [hv]
        · rw [if_neg h0] at hv ⊢
          have hem : KJ2_isEmpty σ.2.1 σ2 = some (if n2 = 0 then nI 1 else nI 0) := by
            have hg : gI σ2 σ.2.1 11 2 = some (nI n2) := by
              have := li_size li
              unfold KJ2_size at this
              cases hq : gI σ2 σ.2.1 11 2 with
              | none => rw [hq] at this; cases this
              | some y => rw [hq] at this; exact this
            unfold KJ2_isEmpty KJ2_isEmpty_12
            simp only [hg, bdS]
            by_cases h : n2 = 0
            · rw [if_pos (by rw [h]; exact nI_0), if_pos h]; rfl
            · rw [if_neg (nI_ne0 (by omega) (by have := I2.2.2.2.2.2.2; omega)), if_neg h]; rfl
          simp only [li_o li, hem, bdS]
          rcases I2.2.2.2.2.2.1 with ⟨m1, m2⟩ | ⟨m1, y, m2, m3, m4⟩
          · rw [if_pos m1, if_neg s1_ne]
            unfold KX1_opened_69
            rw [← hv, m2]
          · obtain ⟨fl, m5⟩ := m4
            have m6 : isIn σ2.1 (g2 0) (nI y) := ⟨fl, I2.1.1.1.1 _ _ m5⟩
            have hg0 : KJ2_get σ.2.1 (nI 0) σ2 = some (g2 0) := li_get li (i := 0) (by omega)
            rw [if_neg (show ¬ n2 = 0 by omega), if_pos nI_0]
            simp only [hg0, in_o m6, in_v m6, bdS]
            unfold KX1_opened_69
            rw [← hv, m3]
      simp only [ko, u2, bdS]
      exact Or.inl ⟨_, σ2, T2, fin _ rfl, rfl, t2.2.1.trans hz, F2, I2.1, f0.tr t2.1⟩
  · simp only [k1, j1, xbR, bdS, if_pos nI_0]
    refine Or.inr ⟨nse, nI 1, σ.2.1, tS σ, nI 0, _, List.mem_cons_self .., rfl, rfl, F_s, fa_tS.mo (fun _ h => h) (by omega) (by omega), ?_, f0.tr jq.t0⟩
    exact (W0.al (σ' := tS σ) (fun _ _ => rfl) (Nat.le_succ _)).j jq.t0
end OD2
