/-! the plain law: what is asked of days to come, on -/
set_option maxRecDepth 100000
section QQ
variable {σ : vv_S} {T : tw_T} {x0 pa va ca a : Nat} {h0 : Nat → Option vv_E} {P : pvT} {R : Nat → Int32} {lo : Int32}
theorem o_then (Q : isQ x0 h0 pa va ca P R lo σ T) (x1 x2 x3 : Int32) : ans va 20 200 [(nse, nI 1), (iae, nI 2)] σ T (KX1_then (KX_fo 80) x0 x1 x2 x3 σ) (J_then x1 x2 x3 T) := by
  obtain ⟨T0, e0, Q0, hz, f0⟩ := Q.z
  unfold KX1_then J_then J_then_32 KX1_then_83 J_then_100
  simp only [e0, bdS, ev_x Q0.1]
  rcases g_town Q0.1 Q0.tp hz x1 with ⟨t, ht, rfl, k1, j1⟩ | ⟨k1, j1⟩
  · rcases g_what (σ := σ) hz x3 (m := 3) (by omega) with ⟨w, hw, rfl, k3, j3⟩ | ⟨k3, j3⟩
    · rcases g_days hz x2 (a := 0) (by omega) (c := nI 2) (by decide) with ⟨d, -, hd2, rfl, k2, j2⟩ | ⟨k2, j2⟩
      · obtain ⟨σ1, T1, s1, u1, B1, hd, F1, z1, y1, g1, hz1⟩ := Q0.start hz
        obtain ⟨lo1, -, c1, -⟩ := id B1
        obtain ⟨σ2, T2, s2, u2, B2, f2, g2⟩ := daysB Q0.cx hd B1 hd2
        obtain ⟨lo2, H2, c2, r2, p2, i2⟩ := B2
        have h8 := ev_8 H2
        simp only [k1, j1, k2, j2, k3, j3, K_right1, xbL, bdS, Q0.gc, co_o Q0.co, s1, u1, co_o c1, s2, u2, if_neg s1_ne]
        have l0 : aI σ2 .int (σ.2.1 + 1 + 0) (nI t) = some (itR P d R (1 + t)) := co_aI c2 (j := 0) (by decide) (show t < 8 by omega)
        have l1 : aI σ2 .int (σ.2.1 + 1 + 1) (nI t) = some (itR P d R (9 + t)) := co_aI c2 (j := 1) (by decide) (show t < 8 by omega)
        have l2 : aI σ2 .int (σ.2.1 + 1 + 2) (nI t) = some (itR P d R (17 + t)) := co_aI c2 (j := 2) (by decide) (show t < 8 by omega)
        have m0 : rdI 170 (T2.2.2 20) (nI 86 + nI t) = some (itR P d R (1 + t)) := by rw [nI_add]; exact rd85 r2 (by omega) (by omega) (us_tp p2 ht h8 (by omega))
        have m1 : rdI 170 (T2.2.2 20) (nI 94 + nI t) = some (itR P d R (9 + t)) := by rw [nI_add]; exact rd85 r2 (by omega) (by omega) (us_tp p2 ht h8 (by omega))
        have m2 : rdI 170 (T2.2.2 20) (nI 102 + nI t) = some (itR P d R (17 + t)) := by rw [nI_add]; exact rd85 r2 (by omega) (by omega) (us_tp p2 ht h8 (by omega))
        have F2 := (F1.coV (Nat.le_refl _) f2).mo (n' := 20) (m' := 200) (fun _ h => h) (by omega) (by omega)
        simp only [co_R c2 (j := 0) (by decide), co_R c2 (j := 1) (by decide), co_R c2 (j := 2) (by decide), l0, l1, l2, m0, m1, m2, co_o c2, bdS]
        by_cases w0 : nI w = 0
        · rw [if_pos w0, if_pos w0]
          exact ans.ok (g2.z.trans hz1) F2 H2.ov ((f0.tr g1).tr (jq.jf g2))
        · rw [if_neg w0, if_neg w0]
          by_cases w1 : nI w = nI 1
          · rw [if_pos w1, if_pos w1]
            exact ans.ok (g2.z.trans hz1) F2 H2.ov ((f0.tr g1).tr (jq.jf g2))
          · rw [if_neg w1, if_neg w1]
            by_cases w2 : nI w = nI 2
            · rw [if_pos w2, if_pos w2]
              exact ans.ok (g2.z.trans hz1) F2 H2.ov ((f0.tr g1).tr (jq.jf g2))
            · rw [if_neg w2, if_neg w2]
              obtain ⟨σ3, s3, H3, c3, f3⟩ := K_odds H2 c2 Q0.cx.1 ht
              obtain ⟨T3, u3, r3, p3, q3, g3⟩ := J_odds_e r2 (by omega) p2 h8 (ev_10 H2) Q0.cx.1 ht
              simp only [s3, u3, bdS]
              exact ans.ok ((g3.z.trans g2.z).trans hz1) (((F1.coV (Nat.le_refl _) f2).coV (Nat.le_refl _) (f3.mo fun q hq => Or.inr hq)).mo (fun _ h => h) (by omega) (by omega)) H3.ov ((f0.tr g1).tr (jq.jf (g2.tr g3)))
      · simp only [k1, j1, k2, j2, k3, j3, K_right0, xbL, xbR, bdS, if_neg s1_ne, if_pos nI_0]
        exact ans.th (List.mem_cons_of_mem _ (List.mem_cons_self ..)) F_s (by omega) (by omega) Q0.1.ov (f0.tr jq.t0)
    · simp only [k1, j1, k3, j3, xbL, xbR, bdS, if_neg s1_ne, if_pos nI_0]
      exact ans.th (List.mem_cons_self ..) F_s (by omega) (by omega) Q0.1.ov (f0.tr jq.t0)
  · simp only [k1, j1, xbR, bdS, if_pos nI_0]
    exact ans.th (List.mem_cons_self ..) F_s (by omega) (by omega) Q0.1.ov (f0.tr jq.t0)
end QQ
