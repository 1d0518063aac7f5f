/-! the plain law: a town, a crate, what spoils; counts -/
set_option maxRecDepth 100000
section TO
variable {σ : vv_S} {T : tw_T} {x0 pa va ca a : Nat} {h0 : Nat → Option vv_E} {P : pvT} {R : Nat → Int32} {lo : Int32}
theorem jq.of0 {T T' : tw_T} (h1 : T'.1 = T.1) (g : jfr 0 T T') (h2 : ∀ q, q < 85 → T'.2.2 20 q = T.2.2 20 q) : jq T T' := ⟨fun k _ => by rw [h1], fun r hr => g.2.2.1 r (by omega) (by omega) (by omega), h2⟩
theorem o_town (Q : isQ x0 h0 pa va ca P R lo σ T) (x1 x2 : Int32) : ans va 20 200 [(nse, nI 1)] σ T (KX1_town (KX_fo 80) x0 x1 x2 σ) (J_town x1 x2 T) := by
  obtain ⟨T0, e0, Q0, hz, f0⟩ := Q.z
  unfold KX1_town J_town J_town_23 KX1_town_134
  simp only [e0, bdS, ev_x Q0.1]
  have cheap : fa (fun q => q = va) 20 200 σ σ := fa.rf.mo (fun _ h => h) (by omega) (by omega)
  rcases g_town Q0.1 Q0.tp hz x1 with ⟨t, ht, rfl, k1, j1⟩ | ⟨k1, j1⟩
  · have h8 := ev_8 Q0.1
    have h10 := ev_10 Q0.1
    simp only [k1, j1, bdS, xbL, if_neg s1_ne, K_found0, K_found1, xbR]
    rcases in_rng x2 (a := 0) (b := 6) (by omega) (by omega) with ⟨w, -, hw, rfl, hr⟩ | hr
    · have j2 : J_isWhat (nI w) (nI 6) T0 = some (nI 1, T0) := by
        unfold J_isWhat
        rw [J_within_e, if_neg hr]
        simp only [J_right1 hz, zr1, bdS]
      simp only [j2, bdS, if_neg s1_ne]
      rcases (show w = 0 ∨ w = 1 ∨ w = 2 ∨ w = 3 ∨ w = 4 ∨ w = 5 ∨ w = 6 by omega) with rfl | rfl | rfl | rfl | rfl | rfl | rfl
      · rw [if_pos rfl, if_pos rfl]
        have l0 : aI σ .int (ca + 1 + 0) (nI t) = some (R (1 + t)) := co_aI Q0.co (j := 0) (by decide) (show t < 8 by omega)
        simp only [Q0.gc, co_R Q0.co (j := 0) (by decide), l0, nI_add, rd0 Q0.rw (show 1 + t < 85 by omega) (us_tq Q0 (by omega) (by omega)), bdS]
        exact ans.ok hz cheap Q0.1.ov f0
      · rw [if_neg (show ¬ nI 1 = nI 0 by decide), if_pos rfl, if_neg (show ¬ nI 1 = nI 0 by decide), if_pos rfl]
        have l0 : aI σ .int (ca + 1 + 1) (nI t) = some (R (9 + t)) := co_aI Q0.co (j := 1) (by decide) (show t < 8 by omega)
        simp only [Q0.gc, co_R Q0.co (j := 1) (by decide), l0, nI_add, rd0 Q0.rw (show 9 + t < 85 by omega) (us_tq Q0 (by omega) (by omega)), bdS]
        exact ans.ok hz cheap Q0.1.ov f0
      · rw [if_neg (show ¬ nI 2 = nI 0 by decide), if_neg (show ¬ nI 2 = nI 1 by decide), if_pos rfl, if_neg (show ¬ nI 2 = nI 0 by decide), if_neg (show ¬ nI 2 = nI 1 by decide), if_pos rfl]
        obtain ⟨lm, q, g1, g2, g3, g4, g5⟩ := ev_mk Q0.1 ht
        have m0 : rdI 8 (T0.2.2 1) (nI t) = some (P.2.1 0 t) := by rw [nI_rd (by omega) (by omega), (Q0.tp.2.2.2.1 t ht).1]
        simp only [ev_pa Q0.1, g1, g2, g3, g4, g5, m0, bdS]
        exact ans.ok hz cheap Q0.1.ov f0
      · rw [if_neg (show ¬ nI 3 = nI 0 by decide), if_neg (show ¬ nI 3 = nI 1 by decide), if_neg (show ¬ nI 3 = nI 2 by decide), if_pos rfl, if_neg (show ¬ nI 3 = nI 0 by decide), if_neg (show ¬ nI 3 = nI 1 by decide), if_neg (show ¬ nI 3 = nI 2 by decide), if_pos rfl]
        obtain ⟨lm, q, g1, g2, g3, g4, g5⟩ := ev_st Q0.1 ht
        have m0 : rdI 8 (T0.2.2 2) (nI t) = some (P.2.1 1 t) := by rw [nI_rd (by omega) (by omega), (Q0.tp.2.2.2.1 t ht).2]
        simp only [ev_pa Q0.1, g1, g2, g3, g4, g5, m0, bdS]
        exact ans.ok hz cheap Q0.1.ov f0
      · rw [if_neg (show ¬ nI 4 = nI 0 by decide), if_neg (show ¬ nI 4 = nI 1 by decide), if_neg (show ¬ nI 4 = nI 2 by decide), if_neg (show ¬ nI 4 = nI 3 by decide), if_pos rfl, if_neg (show ¬ nI 4 = nI 0 by decide), if_neg (show ¬ nI 4 = nI 1 by decide), if_neg (show ¬ nI 4 = nI 2 by decide), if_neg (show ¬ nI 4 = nI 3 by decide), if_pos rfl]
        have l0 : aI σ .int (ca + 1 + 2) (nI t) = some (R (17 + t)) := co_aI Q0.co (j := 2) (by decide) (show t < 8 by omega)
        simp only [Q0.gc, co_R Q0.co (j := 2) (by decide), l0, nI_add, rd0 Q0.rw (show 17 + t < 85 by omega) (us_tq Q0 (by omega) (by omega)), bdS]
        exact ans.ok hz cheap Q0.1.ov f0
      · rw [if_neg (show ¬ nI 5 = nI 0 by decide), if_neg (show ¬ nI 5 = nI 1 by decide), if_neg (show ¬ nI 5 = nI 2 by decide), if_neg (show ¬ nI 5 = nI 3 by decide), if_neg (show ¬ nI 5 = nI 4 by decide), if_pos rfl, if_neg (show ¬ nI 5 = nI 0 by decide), if_neg (show ¬ nI 5 = nI 1 by decide), if_neg (show ¬ nI 5 = nI 2 by decide), if_neg (show ¬ nI 5 = nI 3 by decide), if_neg (show ¬ nI 5 = nI 4 by decide), if_pos rfl]
        obtain ⟨σ1, s1, H1, c1, f1⟩ := K_odds Q0.1 Q0.co Q0.cx.1 ht
        obtain ⟨T1, u1, r1, p1, e1, g1, w20⟩ := J_odds_f Q0.rw (by omega) Q0.tp h8 h10 Q0.cx.1 ht
        have F1 : fa (fun q => q = va) 0 0 σ σ1 := fa.off f1
        have g1q : jq T0 T1 := jq.of0 e1 g1 fun q hq => by rw [w20]
        simp only [Q0.gc, co_o Q0.co, s1, u1, bdS]
        exact ans.ok (by rw [e1]; exact hz) (F1.mo (fun _ h => h) (by omega) (by omega)) H1.ov (f0.tr g1q)
      · rw [if_neg (show ¬ nI 6 = nI 0 by decide), if_neg (show ¬ nI 6 = nI 1 by decide), if_neg (show ¬ nI 6 = nI 2 by decide), if_neg (show ¬ nI 6 = nI 3 by decide), if_neg (show ¬ nI 6 = nI 4 by decide), if_neg (show ¬ nI 6 = nI 5 by decide), if_pos rfl, if_neg (show ¬ nI 6 = nI 0 by decide), if_neg (show ¬ nI 6 = nI 1 by decide), if_neg (show ¬ nI 6 = nI 2 by decide), if_neg (show ¬ nI 6 = nI 3 by decide), if_neg (show ¬ nI 6 = nI 4 by decide), if_neg (show ¬ nI 6 = nI 5 by decide)]
        simp only [Q0.gc, co_o Q0.co, K_lying Q0.1 Q0.co, J_lying_e Q0.rw (by omega) Q0.tp h10 (w := nI t) (nI_m1 (by omega)), bdS]
        exact ans.ok hz cheap Q0.1.ov f0
    · have j2 : J_isWhat x2 (nI 6) T0 = some (nI 0, tw_F T0 0 (nI 1)) := by
        unfold J_isWhat
        rw [J_within_e, if_pos hr]
        simp only [J_right0 hz s1_ne, zr0, bdS]
      simp only [j2, bdS, if_pos nI_0]
      rw [if_neg (rng_ne hr (j := 0) (by omega) (by omega)), if_neg (rng_ne hr (j := 1) (by omega) (by omega)), if_neg (rng_ne hr (j := 2) (by omega) (by omega)), if_neg (rng_ne hr (j := 3) (by omega) (by omega)), if_neg (rng_ne hr (j := 4) (by omega) (by omega)), if_neg (rng_ne hr (j := 5) (by omega) (by omega)), if_neg (rng_ne hr (j := 6) (by omega) (by omega))]
      exact ans.th (List.mem_cons_self ..) F_s (by omega) (by omega) Q0.1.ov (f0.tr jq.t0)
  · simp only [k1, j1, xbR, bdS, if_pos nI_0]
    exact ans.th (List.mem_cons_self ..) F_s (by omega) (by omega) Q0.1.ov (f0.tr jq.t0)
theorem o_crate (Q : isQ x0 h0 pa va ca P R lo σ T) (x1 x2 : Int32) : ans va 20 200 [(nse, nI 1)] σ T (KX1_crate x0 x1 x2 σ) (J_crate x1 x2 T) := by
  obtain ⟨T0, e0, Q0, hz, f0⟩ := Q.z
  unfold KX1_crate J_crate J_crate_22 KX1_crate_86
  simp only [e0, bdS, ev_x Q0.1]
  have cheap : fa (fun q => q = va) 20 200 σ σ := fa.rf.mo (fun _ h => h) (by omega) (by omega)
  rcases g_crate Q0.1 Q0.tp hz x1 with ⟨k, hk, rfl, k1, j1⟩ | ⟨k1, j1⟩
  · have h10 := ev_10 Q0.1
    rcases g_what (σ := σ) hz x2 (m := 4) (by omega) with ⟨w, hw, rfl, k2, j2⟩ | ⟨k2, j2⟩
    · simp only [k1, j1, k2, j2, bdS, xbL, if_neg s1_ne]
      have l0 : aI σ .int (ca + 1 + 3) (nI k) = some (R (25 + k)) := co_aI Q0.co (j := 3) (by decide) (show k < 10 by omega)
      have l1 : aI σ .int (ca + 1 + 4) (nI k) = some (R (35 + k)) := co_aI Q0.co (j := 4) (by decide) (show k < 10 by omega)
      have l2 : aI σ .int (ca + 1 + 5) (nI k) = some (R (45 + k)) := co_aI Q0.co (j := 5) (by decide) (show k < 10 by omega)
      have l3 : aI σ .int (ca + 1 + 6) (nI k) = some (R (55 + k)) := co_aI Q0.co (j := 6) (by decide) (show k < 10 by omega)
      have l4 : aI σ .int (ca + 1 + 7) (nI k) = some (R (65 + k)) := co_aI Q0.co (j := 7) (by decide) (show k < 10 by omega)
      simp only [Q0.gc, co_R Q0.co (j := 3) (by decide), co_R Q0.co (j := 4) (by decide), co_R Q0.co (j := 5) (by decide), co_R Q0.co (j := 6) (by decide), co_R Q0.co (j := 7) (by decide), l0, l1, l2, l3, l4, nI_add, rd0 Q0.rw (show 25 + k < 85 by omega) (us_cq Q0 (by omega) (by omega)), rd0 Q0.rw (show 35 + k < 85 by omega) (us_cq Q0 (by omega) (by omega)), rd0 Q0.rw (show 45 + k < 85 by omega) (us_cq Q0 (by omega) (by omega)), rd0 Q0.rw (show 55 + k < 85 by omega) (us_cq Q0 (by omega) (by omega)), rd0 Q0.rw (show 65 + k < 85 by omega) (us_cq Q0 (by omega) (by omega)), bdS, ← nI_0]
      rcases (show w = 0 ∨ w = 1 ∨ w = 2 ∨ w = 3 ∨ w = 4 by omega) with rfl | rfl | rfl | rfl | rfl
      · rw [if_pos rfl, if_pos rfl]
        exact ans.ok (by rw [hz]) cheap Q0.1.ov f0
      · rw [if_neg (show ¬ nI 1 = nI 0 by decide), if_pos rfl, if_neg (show ¬ nI 1 = nI 0 by decide), if_pos rfl]
        exact ans.ok (by rw [hz]) cheap Q0.1.ov f0
      · rw [if_neg (show ¬ nI 2 = nI 0 by decide), if_neg (show ¬ nI 2 = nI 1 by decide), if_pos rfl, if_neg (show ¬ nI 2 = nI 0 by decide), if_neg (show ¬ nI 2 = nI 1 by decide), if_pos rfl]
        exact ans.ok (by rw [hz]) cheap Q0.1.ov f0
      · rw [if_neg (show ¬ nI 3 = nI 0 by decide), if_neg (show ¬ nI 3 = nI 1 by decide), if_neg (show ¬ nI 3 = nI 2 by decide), if_pos rfl, if_neg (show ¬ nI 3 = nI 0 by decide), if_neg (show ¬ nI 3 = nI 1 by decide), if_neg (show ¬ nI 3 = nI 2 by decide), if_pos rfl]
        exact ans.ok (by rw [hz]) cheap Q0.1.ov f0
      · rw [if_neg (show ¬ nI 4 = nI 0 by decide), if_neg (show ¬ nI 4 = nI 1 by decide), if_neg (show ¬ nI 4 = nI 2 by decide), if_neg (show ¬ nI 4 = nI 3 by decide), if_neg (show ¬ nI 4 = nI 0 by decide), if_neg (show ¬ nI 4 = nI 1 by decide), if_neg (show ¬ nI 4 = nI 2 by decide), if_neg (show ¬ nI 4 = nI 3 by decide)]
        exact ans.ok (by rw [hz]) cheap Q0.1.ov f0
    · simp only [k1, j1, k2, j2, bdS, xbL, xbR, if_neg s1_ne, if_pos nI_0]
      exact ans.th (List.mem_cons_self ..) F_s (by omega) (by omega) Q0.1.ov (f0.tr jq.t0)
  · simp only [k1, j1, xbR, bdS, if_pos nI_0]
    exact ans.th (List.mem_cons_self ..) F_s (by omega) (by omega) Q0.1.ov (f0.tr jq.t0)
/-! what spoils -/
theorem spoilt_loop (Q : isQ x0 h0 pa va ca P R lo σ T) : ∀ (c i n : Nat) (v : Int32), i + c = P.1.2.2 → c < n → ∃ w, KX1_spoilt_4 n x0 v (nI i) σ = some w ∧ J_spoilt_9 n v (nI i) T = some (w, T) := by
  have h10 := ev_10 Q.1
  intro c
  induction c with
  | zero =>
    intro i n v hi hn
    obtain ⟨n, rfl⟩ : ∃ m, n = m + 1 := ⟨n - 1, by omega⟩
    refine ⟨v, ?_, ?_⟩
    · show BKX1_spoilt_4 (KX1_spoilt_4 n) x0 v (nI i) σ = _
      unfold BKX1_spoilt_4
      simp only [ev_pa Q.1, ev_cr Q.1, bdS]
      rw [if_pos (nI_le (by omega) (by omega))]
    · show B_spoilt_9 (J_spoilt_9 n) v (nI i) T = _
      unfold B_spoilt_9
      rw [Q.tp.2.2.1, if_pos (nI_le (by omega) (by omega))]
  | succ c ih =>
    intro i n v hi hn
    obtain ⟨n, rfl⟩ : ∃ m, n = m + 1 := ⟨n - 1, by omega⟩
    have hi10 : i < 10 := by omega
    obtain ⟨⟨g1, g2⟩, -, -, -, ⟨t1, t2⟩, ⟨l1, l2⟩⟩ := Q.inv.2 i hi10
    have k3 : aI σ .int (ca + 1 + 3) (nI i) = some (R (25 + i)) := co_aI Q.co (j := 3) (by decide) hi10
    have k5 : aI σ .int (ca + 1 + 5) (nI i) = some (R (45 + i)) := co_aI Q.co (j := 5) (by decide) hi10
    have k7 : aI σ .int (ca + 1 + 7) (nI i) = some (R (65 + i)) := co_aI Q.co (j := 7) (by decide) hi10
    have k8 : aI σ .int (ca + 1 + 8) (nI i) = some (R (75 + i)) := co_aI Q.co (j := 8) (by decide) hi10
    show ∃ w, BKX1_spoilt_4 (KX1_spoilt_4 n) x0 v (nI i) σ = some w ∧ B_spoilt_9 (J_spoilt_9 n) v (nI i) T = some (w, T)
    unfold BKX1_spoilt_4 B_spoilt_9 KX1_spoilt_71 KX1_spoilt_80 J_spoilt_77 J_spoilt_91 J_spoilt_93
    simp only [ev_pa Q.1, ev_cr Q.1, Q.gc, co_o Q.co, K_goes Q.co hi10, co_R Q.co (j := 3) (by decide), co_R Q.co (j := 5) (by decide), co_R Q.co (j := 7) (by decide), co_R Q.co (j := 8) (by decide), k3, k5, k7, k8, Q.tp.2.2.1, nI_add, rd0 Q.rw (show 65 + i < 85 by omega) (us_cq Q (by omega) (by omega)), rd0 Q.rw (show 25 + i < 85 by omega) (us_cq Q (by omega) (by omega)), rd0 Q.rw (show 45 + i < 85 by omega) (us_cq Q (by omega) (by omega)), rd0 Q.rw (show 75 + i < 85 by omega) (us_cq Q (by omega) (by omega)), or_0, bdS]
    rw [if_neg (nI_ge (show i < P.1.2.2 by omega) (by omega)), if_neg (nI_ge (show i < P.1.2.2 by omega) (by omega))]
    have fin : ∀ v, ∃ w, KX1_spoilt_4 n x0 v (nI (i + 1)) σ = some w ∧ J_spoilt_9 n v (nI (i + 1)) T = some (w, T) := fun v => ih (i + 1) n v (by omega) (by omega)
    by_cases hg : R (65 + i) ≤ 0
    · have hz : R (65 + i) = 0 := ti_eq (by rw [ti_le, ti_0] at hg; rw [ti_0]; omega)
      rw [if_pos hg, if_pos nI_0, if_pos hz]
      exact fin v
    · have hz : ¬ R (65 + i) = 0 := fun e => hg (by rw [e, ti_le]; exact Int.le_refl _)
      rw [if_neg hg, if_neg s1_ne, if_neg hz]
      obtain ⟨g, hg9, eg⟩ := rI_n (m := 99) ⟨g1, g2⟩
      obtain ⟨x, hx9, ex⟩ := rI_n (m := 9) ⟨t1, t2⟩
      obtain ⟨y, hy9, ey⟩ := rI_n (m := 9) ⟨l1, l2⟩
      have tg := ti_n (n := g) (by omega)
      have key : ∀ s : Nat, s ≤ 81 → ∃ w, (if nI s < nI g then KX1_spoilt_4 n x0 v (nI (i + 1)) σ else KX1_spoilt_4 n x0 (v ||| nI 1 <<< (nI i &&& 31)) (nI (i + 1)) σ) = some w ∧ (if 0 < nI g - nI s then J_spoilt_9 n v (nI (i + 1)) T else J_spoilt_9 n (v ||| nI 1 <<< (nI i &&& 31)) (nI (i + 1)) T) = some (w, T) := by
        intro s hs
        have ts := ti_n (n := s) (by omega)
        have ed : (nI g - nI s).toInt = (g : Int) - s := by rw [ti_sub (by rw [tg, ts]; omega) (by rw [tg, ts]; omega), tg, ts]
        by_cases e : s < g
        · rw [if_pos (nI_lt e (by omega)), if_pos (by rw [ti_lt, ti_0, ed]; omega)]
          exact fin _
        · rw [if_neg (nI_nlt (by omega) (by omega)), if_neg (by rw [ti_lt, ti_0, ed]; omega)]
          exact fin _
      by_cases hc : R (45 + i) = nI 1
      · rw [if_pos hc, if_pos hc, eg]
        exact key 0 (by omega)
      · rw [if_neg hc, if_neg hc, eg, ex, ey, pk_mul, pk_mul, Nat.mul_comm y x]
        exact key (x * y) (Nat.le_trans (Nat.mul_le_mul hx9 hy9) (by omega))
theorem o_spoilt (Q : isQ x0 h0 pa va ca P R lo σ T) : ∃ v T', KX1_spoilt x0 σ = some v ∧ J_spoilt T = some (v, T') ∧ jq T T' := by
  obtain ⟨T0, e0, Q0, hz, f0⟩ := Q.z
  have h10 := ev_10 Q0.1
  obtain ⟨v, s1, u1⟩ := spoilt_loop Q0 P.1.2.2 0 NN (nI 0) (by omega) (by unfold NN; omega)
  refine ⟨v, T0, s1, ?_, f0⟩
  unfold J_spoilt
  simp only [e0, bdS, u1]
end TO
