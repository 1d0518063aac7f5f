/-! the plain law: acts on crates -/
set_option maxRecDepth 100000
section AY
variable {ad a own : Nat → Nat} {hC h0 : Nat → Option vv_E} {P : pvT} {R : Nat → Int32} {lo : Int32} {n : Nat} {A : Nat → Nat → Int32} {S : seT} {tp : Nat} {i5 : Int32} {v9 v10 v11 : Value} {sd : Int32} {σ σ' : vv_S} {T T' : tw_T} {x0 ot o : Nat}
theorem inv_go (h : invR P R) {k : Nat} {x y z : Int32} (hk : k < 10) (hx : rI x (-1) (P.1.1 - 1)) (hy : rI y 0 9) (hz : rI z 0 9) : invR P (upd (upd (upd R (55 + k) x) (65 + k) y) (75 + k) z) := by
  refine inv_u (inv_u (inv_u h ?_) ?_) ?_
  · exact ⟨fun a c => by omega, fun a c => by omega, fun a c => by omega, fun _ _ => hx, fun a c => by omega⟩
  · exact ⟨fun a c => by omega, fun a c => by omega, fun a c => by omega, fun a c => by omega, fun _ _ => hy⟩
  · exact ⟨fun a c => by omega, fun a c => by omega, fun a c => by omega, fun a c => by omega, fun _ _ => hz⟩
theorem okV.k {va : Nat} (h : okV σ va) (e : σ'.1 va = σ.1 va) : okV σ' va := by
  obtain ⟨u, hu⟩ := h
  exact ⟨u, e.trans hu⟩
theorem RL.send (h : RL ad hC x0 ot o σ T) (x1 x2 : Int32) : opA ad hC x0 ot o [(nse, nI 1)] σ (KX1_send ad x0 x1 x2 σ) (J_send x1 x2 T) := by
  obtain ⟨a, own, h0, P, R, lo, n, A, S, tp, i5, v9, v10, v11, sd, e1, e2, e3, H⟩ := h
  subst e1 e2 e3
  obtain ⟨T0, e0, H0, hz⟩ := H.z
  have hQ := H0.isQ
  have h8 := ev_8 hQ.1
  have h10 := ev_10 hQ.1
  have h12 := ev_12 hQ.1
  unfold KX1_send J_send J_send_21
  simp only [e0, bdS, ev_x hQ.1]
  rcases g_crate hQ.1 hQ.tp hz x1 with ⟨k, hk, rfl, k1, j1⟩ | ⟨k1, j1⟩
  · have hk10 : k < 10 := by omega
    obtain ⟨lw, l1, l2, l3, l4⟩ := ev_lw hQ.1
    simp only [k1, j1, xbL, bdS, if_neg s1_ne, ev_pa hQ.1, l1, l2, l3]
    rcases g_way h12 hQ.tp hz x2 (σ := σ) with ⟨w, hw, rfl, k2, j2⟩ | ⟨k2, j2⟩
    · obtain ⟨q, m1, m2, m3, m4, m5, m6, eq, heq⟩ := l4 w hw
      have l6 : aI σ .int (a 2 + 1 + 6) (nI k) = some (R (55 + k)) := co_aI hQ.co (j := 6) (by decide) hk10
      simp only [k2, j2, xbL, bdS, if_neg s1_ne, ev_pa hQ.1, l1, l2, m1, m2, hQ.gc, co_o hQ.co, K_lies hQ.co hk10, J_lies_e hQ.rw (by omega) hQ.tp.2.2.1 hk (ev_10 hQ.1)]
      have ref : opA ad hC (a 20) (a 21) (a 22) [(nse, nI 1)] σ (KX1_send_68 ad (a 20) σ) (J_send_50 T0) := by
        unfold KX1_send_68 J_send_50
        simp only [ev_x hQ.1, bdS]
        exact H0.ref2 hz (by omega)
      by_cases hl : liesR R k
      · rw [if_pos hl, if_neg s1_ne, if_neg s1_ne]
        simp only [co_R hQ.co (j := 6) (by decide), l6, K_from m3 m4, J_leads_e hQ.tp h12 hw, nI_add, rd0 hQ.rw (show 55 + k < 85 by omega) (us_cq hQ (by omega) (by omega)), bdS]
        by_cases hd : ldI P w (R (55 + k)) = -1
        · rw [if_pos hd, if_pos hd]
          exact ref
        · rw [if_neg hd, if_neg hd]
          obtain ⟨σ1, T1, a', own', h0', n', A', ha, q1, w1, H1, f1, z1, u1⟩ := H0.keep'
          have e20 := ha 20 (by omega)
          have hQ1 := H1.isQ
          obtain ⟨lw', l1', l2', l3', l4'⟩ := ev_lw hQ1.1
          have old : ∀ {c : Nat}, gI σ q 6 c = gI σ q 6 c := rfl
          have hM := H0.1
          have hq9 := hM.2.1 q eq heq
          have e9 : σ1.1 q = σ.1 q := (H1.1.2.2.1 q eq (u1 q eq heq)).trans (hM.2.2.1 q eq heq).symm
          have g0 : gI σ1 q 6 0 = some (P.2.1 2 w) := (gI_eq e9).trans m3
          have g1 : gI σ1 q 6 1 = some (P.2.1 3 w) := (gI_eq e9).trans m4
          have o1 : isO σ1 q 6 = some () := (isO_eq e9).trans m2
          obtain ⟨σ2, q2, C2, fr2⟩ := co_sI hQ1.co (j := 6) (i := k) (v := ldI P w (R (55 + k))) (by decide) hk10
          obtain ⟨σ3, q3, C3, fr3⟩ := co_sI C2 (j := 7) (i := k) (v := P.2.1 4 w) (by decide) hk10
          obtain ⟨σ4, q4, C4, fr4⟩ := co_sI C3 (j := 8) (i := k) (v := P.2.1 5 w) (by decide) hk10
          obtain ⟨T2, w2, r2, g2⟩ := rw_st hQ1.rw (by omega) (k := 55 + k) (v := ldI P w (R (55 + k))) (by omega)
          obtain ⟨T3, w3, r3, g3⟩ := rw_st r2 (by omega) (k := 65 + k) (v := P.2.1 4 w) (by omega)
          obtain ⟨T4, w4, r4, g4⟩ := rw_st r3 (by omega) (k := 75 + k) (v := P.2.1 5 w) (by omega)
          rw [Nat.zero_add] at w2 w3 w4
          have hqc : ¬ coA (a' 2) q := fun z => by
            have h7 := u1 q eq heq
            rw [H1.hd q z] at h7
            cases h7
          have x2 : σ2.1 q = σ1.1 q := fr2.2 q hqc
          have x3 : σ3.1 q = σ1.1 q := (fr3.2 q hqc).trans x2
          have g24 : gI σ2 q 6 2 = some (P.2.1 4 w) := (gI_eq (x2.trans e9)).trans m5
          have g35 : gI σ3 q 6 3 = some (P.2.1 5 w) := (gI_eq (x3.trans e9)).trans m6
          have hx20 := ev_xco hQ1.1 hQ1.co
          have gc1 := hQ1.gc
          have gc2 : gR σ2 (a' 20) 0 2 = some (a' 2) := (gR_eq (fr2.2 _ hx20)).trans gc1
          have gc3 : gR σ3 (a' 20) 0 2 = some (a' 2) := (gR_eq ((fr3.2 _ hx20).trans (fr2.2 _ hx20))).trans gc1
          have gc4 : gR σ4 (a' 20) 0 2 = some (a' 2) := (gR_eq ((fr4.2 _ hx20).trans ((fr3.2 _ hx20).trans (fr2.2 _ hx20)))).trans gc1
          rw [e20] at gc1 gc2 gc3 gc4
          have l61 : aI σ1 .int (a' 2 + 1 + 6) (nI k) = some (R (55 + k)) := co_aI hQ1.co (j := 6) (by decide) hk10
          have hup : upd (upd (upd R (55 + k) (ldI P w (R (55 + k)))) (65 + k) (P.2.1 4 w)) (75 + k) (P.2.1 5 w) (55 + k) = ldI P w (R (55 + k)) := by
            rw [upd_n (by omega), upd_n (by omega), upd_s]
          have l64 : aI σ4 .int (a' 2 + 1 + 6) (nI k) = some (ldI P w (R (55 + k))) := by
            rw [← hup]
            exact co_aI C4 (j := 6) (by decide) hk10
          obtain ⟨-, -, -, -, t5, t6⟩ := hQ1.tp
          have v5 : rdI 12 (T2.2.2 5) (nI w) = some (P.2.1 4 w) := by
            rw [nI_rd (by omega) (by omega), g2.2.2.1 5 (by omega) (by omega) (by omega), (hQ1.tp.2.2.2.2.1 w hw).2.2.1]
          have v6 : rdI 12 (T3.2.2 6) (nI w) = some (P.2.1 5 w) := by
            rw [nI_rd (by omega) (by omega), (g2.tr g3).2.2.1 6 (by omega) (by omega) (by omega), (hQ1.tp.2.2.2.2.1 w hw).2.2.2]
          have v7 : rdI 170 (T4.2.2 20) (nI (55 + k)) = some (ldI P w (R (55 + k))) := by rw [rd0 r4 (by omega) ((us_cq hQ1 hk (by omega)).k (((g2.tr g3).tr g4).2.1 1 (by omega)) (((g2.tr g3).tr g4).2.1 3 (by omega))), hup]
          have fr : fr (coA (a' 2)) σ1 σ4 := (fr2.tr fr3).tr fr4
          have f2 := H1.fo (fa.off (fr.mo fun q hq => Or.inl hq))
          have f3 := H1.fcA f2
          rw [ha 21 (by omega), ha 22 (by omega)] at f3
          have hinv : invR P (upd (upd (upd R (55 + k) (ldI P w (R (55 + k)))) (65 + k) (P.2.1 4 w)) (75 + k) (P.2.1 5 w)) := by
            obtain ⟨-, -, ⟨p4, -⟩, ⟨p5, -⟩⟩ := hQ1.cx.2.2 w hw
            obtain ⟨y1, y2, ⟨y3, y4⟩, y5⟩ := hQ1.cx.2.2 w hw
            refine inv_go hQ1.inv hk10 ?_ ⟨by omega, y4⟩ y5
            rcases ld_is hQ1.cx.2 h8 hw (R (55 + k)) with h9 | ⟨t, ht, h9⟩
            · exact absurd h9 hd
            · rw [h9]
              have e7 := ti_n (n := t) (by omega)
              exact ⟨by rw [e7]; omega, by rw [e7]; omega⟩
          have xo : isO σ (a 20) 0 = some () := ev_x hQ.1
          have e6 : ∀ {τ : vv_S} {R' : Nat → Int32} {lo' : Int32}, isCo τ (a' 20) (a' 2) R' lo' → gR τ (a' 2) 2 6 = some (a' 2 + 1 + 6) ∧ gR τ (a' 2) 2 7 = some (a' 2 + 1 + 7) ∧ gR τ (a' 2) 2 8 = some (a' 2 + 1 + 8) := fun c => ⟨co_R c (by decide), co_R c (by decide), co_R c (by decide)⟩
          simp only [q1, w1, gc1, gc2, gc3, gc4, (e6 hQ1.co).1, (e6 C2).2.1, (e6 C3).2.2, (e6 C4).1, l61, o1, K_from g0 g1, q2, g24, q3, g35, q4, l64, J_leads_e hQ1.tp h12 hw, rd0 hQ1.rw (show 55 + k < 85 by omega) (us_cq hQ1 (by omega) (by omega)), w2, v5, w3, v6, w4, v7, xo, nI_add, bdS]
          exact Or.inl ⟨_, σ4, T4, rfl, rfl, by rw [((g2.tr g3).tr g4).2.1 0 (by omega), z1]; exact hz, (H1.row f2 (hQ1.1.ov.k (fr.2 _ (ev_vaco hQ1.1 hQ1.co))) C4 hinv r4 ((g2.tr g3).tr g4).jz).rr ha, (f1.tr f3).mo (by omega) (by omega)⟩
      · rw [if_neg hl, if_pos nI_0, if_pos nI_0]
        exact ref
    · simp only [k2, j2, xbR, bdS, if_pos nI_0]
      exact H0.thr (List.mem_cons_self ..)
  · simp only [k1, j1, xbR, bdS, if_pos nI_0]
    exact H0.thr (List.mem_cons_self ..)
theorem mixR (h : invR P R) {k q : Nat} (hk : k < 10) (hq : q < 10) : rI (mnI (nI 99) (R (25 + k) + R (25 + q))) 0 99 ∧ rI (abI (R (25 + k) - R (25 + q))) 0 99 ∧ kepI (R (25 + k) + R (25 + q)) (nI 0) (nI 99) = mnI (nI 99) (R (25 + k) + R (25 + q)) ∧ (if R (25 + k) ≤ R (25 + q) then R (25 + q) - R (25 + k) else R (25 + k) - R (25 + q)) = abI (R (25 + k) - R (25 + q)) := by
  obtain ⟨⟨a1, a2⟩, -⟩ := h.2 k hk
  obtain ⟨⟨b1, b2⟩, -⟩ := h.2 q hq
  have e99 := ti_n (n := 99) (by omega)
  have e0 := ti_n (n := 0) (by omega)
  have es : (R (25 + k) + R (25 + q)).toInt = (R (25 + k)).toInt + (R (25 + q)).toInt := ti_add (by omega) (by omega)
  have ed : (R (25 + k) - R (25 + q)).toInt = (R (25 + k)).toInt - (R (25 + q)).toInt := ti_sub (by omega) (by omega)
  have ed2 : (R (25 + q) - R (25 + k)).toInt = (R (25 + q)).toInt - (R (25 + k)).toInt := ti_sub (by omega) (by omega)
  have ez : (0 - (R (25 + k) - R (25 + q)) : Int32).toInt = 0 - ((R (25 + k)).toInt - (R (25 + q)).toInt) := by
    rw [ti_sub (by rw [ed, ti_0]; omega) (by rw [ed, ti_0]; omega), ed, ti_0]
  refine ⟨⟨by rw [mn_ti, e99, es]; omega, by rw [mn_ti, e99, es]; omega⟩, ?_, ?_, ?_⟩
  · unfold abI
    split
    · rename_i h9
      rw [ti_le, ti_0, ed] at h9
      exact ⟨by rw [ed]; omega, by rw [ed]; omega⟩
    · rename_i h9
      rw [ti_le, ti_0, ed] at h9
      exact ⟨by rw [ez]; omega, by rw [ez]; omega⟩
  · unfold kepI mnI
    rw [if_pos (by rw [ti_le, e0, es]; omega)]
    by_cases h9 : R (25 + k) + R (25 + q) ≤ nI 99
    · rw [if_pos h9]
      by_cases h8 : R (25 + k) + R (25 + q) < nI 99
      · rw [if_pos h8]
      · rw [if_neg h8]
        rw [ti_le, e99] at h9
        rw [ti_lt, e99] at h8
        exact ti_eq (by rw [e99]; omega)
    · rw [if_neg h9, if_neg]
      rw [ti_le, e99] at h9
      rw [ti_lt, e99]
      omega
  · unfold abI
    by_cases h9 : R (25 + k) ≤ R (25 + q)
    · rw [if_pos h9]
      rw [ti_le] at h9
      by_cases h8 : (0 : Int32) ≤ R (25 + k) - R (25 + q)
      · rw [if_pos h8]
        rw [ti_le, ti_0, ed] at h8
        exact ti_eq (by rw [ed, ed2]; omega)
      · rw [if_neg h8]
        exact ti_eq (by rw [ed2, ez]; omega)
    · rw [if_neg h9, if_pos]
      rw [ti_le] at h9
      rw [ti_le, ti_0, ed]
      omega
theorem RL.mix (h : RL ad hC x0 ot o σ T) (x1 x2 : Int32) : opA ad hC x0 ot o [(nse, nI 1)] σ (KX1_mix ad x0 x1 x2 σ) (J_mix x1 x2 T) := by
  obtain ⟨a, own, h0, P, R, lo, n, A, S, tp, i5, v9, v10, v11, sd, e1, e2, e3, H⟩ := h
  subst e1 e2 e3
  obtain ⟨T0, e0, H0, hz⟩ := H.z
  have hQ := H0.isQ
  have h8 := ev_8 hQ.1
  have h10 := ev_10 hQ.1
  unfold KX1_mix J_mix J_mix_21
  simp only [e0, bdS, ev_x hQ.1]
  have ref : opA ad hC (a 20) (a 21) (a 22) [(nse, nI 1)] σ (KX1_mix_58 ad (a 20) σ) (J_mix_67 T0) := by
    unfold KX1_mix_58 J_mix_67
    simp only [ev_x hQ.1, bdS]
    exact H0.ref2 hz (by omega)
  rcases g_crate hQ.1 hQ.tp hz x1 with ⟨k, hk, rfl, k1, j1⟩ | ⟨k1, j1⟩
  · have hk10 : k < 10 := by omega
    simp only [k1, j1, xbL, bdS, if_neg s1_ne, ev_x hQ.1]
    rcases g_crate hQ.1 hQ.tp hz x2 with ⟨q, hq, rfl, k2, j2⟩ | ⟨k2, j2⟩
    · have hq10 : q < 10 := by omega
      have l6 : aI σ .int (a 2 + 1 + 6) (nI k) = some (R (55 + k)) := co_aI hQ.co (j := 6) (by decide) hk10
      have l6' : aI σ .int (a 2 + 1 + 6) (nI q) = some (R (55 + q)) := co_aI hQ.co (j := 6) (by decide) hq10
      simp only [k2, j2, xbL, bdS, if_neg s1_ne]
      by_cases hkq : nI k = nI q
      · rw [if_pos hkq, if_pos hkq]
        exact ref
      · rw [if_neg hkq, if_neg hkq]
        have hne : k ≠ q := fun z => hkq (by rw [z])
        simp only [hQ.gc, co_o hQ.co, K_lies hQ.co hk10, K_lies hQ.co hq10, J_lies_e hQ.rw (by omega) hQ.tp.2.2.1 hk (ev_10 hQ.1), J_lies_e hQ.rw (by omega) hQ.tp.2.2.1 hq (ev_10 hQ.1), bdS]
        by_cases hl : liesR R k
        · rw [if_pos hl, if_neg s1_ne, if_neg s1_ne]
          by_cases hl2 : liesR R q
          · rw [if_pos hl2, if_neg s1_ne, if_neg s1_ne]
            simp only [co_R hQ.co (j := 6) (by decide), l6, l6', nI_add, rd0 hQ.rw (show 55 + k < 85 by omega) (us_cq hQ (by omega) (by omega)), rd0 hQ.rw (show 55 + q < 85 by omega) (us_cq hQ (by omega) (by omega)), bdS]
            by_cases hw : R (55 + k) = R (55 + q)
            · rw [if_pos hw, if_pos hw]
              obtain ⟨σ1, T1, a', own', h0', n', A', ha, q1, w1, H1, f1, z1, u1⟩ := H0.keep'
              have e20 := ha 20 (by omega)
              have hQ1 := H1.isQ
              have gc1 := hQ1.gc
              rw [e20] at gc1
              have hx20 := ev_xco hQ1.1 hQ1.co
              have c3 : aI σ1 .int (a' 2 + 1 + 3) (nI k) = some (R (25 + k)) := co_aI hQ1.co (j := 3) (by decide) hk10
              have c3' : aI σ1 .int (a' 2 + 1 + 3) (nI q) = some (R (25 + q)) := co_aI hQ1.co (j := 3) (by decide) hq10
              have c4 : aI σ1 .int (a' 2 + 1 + 4) (nI k) = some (R (35 + k)) := co_aI hQ1.co (j := 4) (by decide) hk10
              have c4' : aI σ1 .int (a' 2 + 1 + 4) (nI q) = some (R (35 + q)) := co_aI hQ1.co (j := 4) (by decide) hq10
              obtain ⟨mx1, mx2, mx3, mx4⟩ := mixR hQ1.inv hk10 hq10
              have last : ∀ {σ2 : vv_S} {T2 : tw_T} {R2 : Nat → Int32} {v : Int32}, isCo σ2 (a' 20) (a' 2) R2 lo → isRw T2 0 R2 → invR P R2 → fr (coA (a' 2)) σ1 σ2 → jfr 0 T1 T2 → R2 (65 + q) = 0 → rI v 0 99 → opA ad hC (a 20) (a 21) (a 22) [(nse, nI 1)] σ ((sI σ2 (a' 2 + 1 + 3) (nI k) v).bind fun σ3 => KX1_mix_171 ad (a 20) (nI k) (nI q) σ3) (J_mix_198 (nI (25 + k)) v (nI k) (nI q) T2) := by
                intro σ2 T2 R2 v C2 r2 i2 fr2 g2 hz2 hv
                obtain ⟨σ3, q3, C3, fr3⟩ := co_sI C2 (j := 3) (i := k) (v := v) (by decide) hk10
                obtain ⟨σ4, q4, C4, fr4⟩ := K_lose C3 hq10
                obtain ⟨T3, w3, r3, g3⟩ := rw_st r2 (by omega) (k := 25 + k) (v := v) (by omega)
                obtain ⟨T4, w4, r4, g4⟩ := rw_st r3 (by omega) (k := 25 + q) (v := nI 0) (by omega)
                obtain ⟨T5, w5, r5, g5⟩ := rw_st r4 (by omega) (k := 55 + q) (v := -1) (by omega)
                rw [Nat.zero_add] at w3 w4 w5
                have r6 : isRw T5 0 (loseR (upd R2 (25 + k) v) q) := r5.ext fun y hy => by
                  unfold loseR
                  by_cases e : y = 65 + q
                  · subst e
                    rw [upd_s, upd_n (by omega), upd_n (by omega), upd_n (by omega), hz2, nI_0]
                  · rw [upd_n e]
                have hu : loseR (upd R2 (25 + k) v) q (25 + k) = v := by
                  unfold loseR
                  rw [upd_n (by omega), upd_n (by omega), upd_n (by omega), upd_s]
                have gc3 : gR σ3 (a' 20) 0 2 = some (a' 2) := (gR_eq ((fr3.2 _ hx20).trans (fr2.2 _ hx20))).trans hQ1.gc
                have gc4 : gR σ4 (a' 20) 0 2 = some (a' 2) := (gR_eq ((fr4.2 _ hx20).trans ((fr3.2 _ hx20).trans (fr2.2 _ hx20)))).trans hQ1.gc
                rw [e20] at gc3 gc4
                have l9 : aI σ4 .int (a' 2 + 1 + 3) (nI k) = some v := by
                  have h9 : aI σ4 .int (a' 2 + 1 + 3) (nI k) = some (loseR (upd R2 (25 + k) v) q (25 + k)) := co_aI C4 (j := 3) (by decide) hk10
                  rw [h9, hu]
                have fr : fr (coA (a' 2)) σ1 σ4 := (fr2.tr fr3).tr fr4
                have g : jfr 0 T1 T5 := ((g2.tr g3).tr g4).tr g5
                have f2 := H1.fo (fa.off (fr.mo fun q hq => Or.inl hq))
                have f3 := H1.fcA f2
                rw [ha 21 (by omega), ha 22 (by omega)] at f3
                have hinv : invR P (loseR (upd R2 (25 + k) v) q) := inv_lose (inv_u i2 ⟨fun a c => by omega, fun _ _ => hv, fun a c => by omega, fun a c => by omega, fun a c => by omega⟩) hq10
                unfold KX1_mix_171 J_mix_198
                simp only [q3, gc3, co_o C3, q4, gc4, co_R C4 (j := 3) (by decide), l9, w3, nI_add, w4, w5, rd0 r6 (show 25 + k < 85 by omega) ((us_cq hQ1 hk (by omega)).k (g.2.1 1 (by omega)) (g.2.1 3 (by omega))), hu, bdS]
                exact Or.inl ⟨_, σ4, T5, rfl, rfl, by rw [g.2.1 0 (by omega), z1]; exact hz, (H1.row f2 (hQ1.1.ov.k (fr.2 _ (ev_vaco hQ1.1 hQ1.co))) C4 hinv r6 g.jz).rr ha, (f1.tr f3).mo (by omega) (by omega)⟩
              have hz0 : R (65 + q) = 0 := hl2.2
              simp only [q1, w1, gc1, co_R hQ1.co (j := 3) (by decide), co_R hQ1.co (j := 4) (by decide), c3, c3', c4, c4', nI_add, rd0 hQ1.rw (show 25 + k < 85 by omega) (us_cq hQ1 (by omega) (by omega)), rd0 hQ1.rw (show 25 + q < 85 by omega) (us_cq hQ1 (by omega) (by omega)), rd0 hQ1.rw (show 35 + k < 85 by omega) (us_cq hQ1 (by omega) (by omega)), rd0 hQ1.rw (show 35 + q < 85 by omega) (us_cq hQ1 (by omega) (by omega)), ev_x hQ.1, bdS]
              by_cases hs : R (35 + k) = R (35 + q)
              · rw [if_pos hs, if_pos hs]
                unfold J_mix_124 J_mix_155
                rw [if_neg s1_ne, if_neg s1_ne]
                simp only [J_kept_e, mx3, nI_add, bdS]
                exact last hQ1.co hQ1.rw hQ1.inv fr.rf jfr.rf hz0 mx1
              · rw [if_neg hs, if_neg hs]
                unfold J_mix_124
                rw [if_pos nI_0]
                have e155 : ∀ T2 : tw_T, J_mix_155 (nI k) (nI q) (R (25 + k)) (R (25 + q)) (nI 0) T2 = J_mix_198 (nI (25 + k)) (abI (R (25 + k) - R (25 + q))) (nI k) (nI q) T2 := fun T2 => by
                  unfold J_mix_155
                  rw [if_pos nI_0, ← mx4, nI_add]
                  split <;> rfl
                by_cases hg : R (25 + q) ≤ R (25 + k)
                · rw [if_pos hg, if_pos hg, e155]
                  unfold KX1_mix_155
                  simp only [gc1, co_R hQ1.co (j := 3) (by decide), bdS]
                  exact last hQ1.co hQ1.rw hQ1.inv fr.rf jfr.rf hz0 mx2
                · rw [if_neg hg, if_neg hg]
                  obtain ⟨σ2, q2, C2, fr2⟩ := co_sI hQ1.co (j := 4) (i := k) (v := R (35 + q)) (by decide) hk10
                  have C2 : isCo σ2 (a' 20) (a' 2) (upd R (35 + k) (R (35 + q))) lo := C2
                  obtain ⟨T2, w2, r2, g2⟩ := rw_st hQ1.rw (by omega) (k := 35 + k) (v := R (35 + q)) (by omega)
                  rw [Nat.zero_add] at w2
                  have gc2 : gR σ2 (a' 20) 0 2 = some (a' 2) := (gR_eq (fr2.2 _ hx20)).trans hQ1.gc
                  rw [e20] at gc2
                  have hi2 : invR P (upd R (35 + k) (R (35 + q))) := inv_u hQ1.inv ⟨fun a c => by omega, fun a c => by omega, fun _ _ => (hQ1.inv.2 q hq10).2.1, fun a c => by omega, fun a c => by omega⟩
                  unfold KX1_mix_155
                  simp only [q2, nI_add, rd0 hQ1.rw (show 35 + q < 85 by omega) (us_cq hQ1 (by omega) (by omega)), w2, e155, gc2, co_R C2 (j := 3) (by decide), bdS]
                  exact last C2 r2 hi2 fr2 g2 (by rw [upd_n (by omega)]; exact hz0) mx2
            · rw [if_neg hw, if_neg hw]
              exact ref
          · rw [if_neg hl2, if_pos nI_0, if_pos nI_0]
            exact ref
        · rw [if_neg hl, if_pos nI_0, if_pos nI_0]
          exact ref
    · simp only [k2, j2, xbR, bdS, if_pos nI_0]
      exact H0.thr (List.mem_cons_self ..)
  · simp only [k1, j1, xbR, bdS, if_pos nI_0]
    exact H0.thr (List.mem_cons_self ..)
end AY
