/-! the plain law: what is asked of days to come, on -/
set_option maxRecDepth 100000
section QQ
variable {σ : vv_S} {T : tw_T} {x0 pa va ca a : Nat} {h0 : Nat → Option vv_E} {P : pvT} {R : Nat → Int32} {lo : Int32}
theorem lend_loop (cx : six P ∧ invP P) {t L : Nat} (ht : t < P.1.1) (hL : L ≤ 9999) (hab : ca + 10 ≤ a) (hd : ∀ q, coA a q → h0 q = none) (hx : gR σ x0 0 2 = some ca) (hR : R (1 + t) = nI L) : ∀ (c i n : Nat) (σ : vv_S) (T : tw_T) (R' : Nat → Int32) (lo' best : Int32), isEnv σ x0 h0 pa va P → gR σ x0 0 2 = some ca → isCo σ x0 ca R lo → isCo σ x0 a R' lo' → isRw T 0 R → isRw T 85 R' → isTp T P → i + c = L + 1 → c < n → ∃ v σ' T', KX1_lend_33 (KX_fo 80) n x0 (nI t) a best (nI i) σ = some (.inl (v, σ')) ∧ J_lend_36 n (nI t) best (nI i) T = some (v, T') ∧ isEnv σ' x0 h0 pa va P ∧ fr (coV a va) σ σ' ∧ jfr 85 T T' := by
  intro c
  induction c with
  | zero =>
    intro i n σ T R' lo' best H hx c0 c1 r0 r1 p0 hi hn
    obtain ⟨n, rfl⟩ : ∃ m, n = m + 1 := ⟨n - 1, by omega⟩
    show ∃ v σ' T', BKX1_lend_33 (KX_fo 80) (KX1_lend_33 (KX_fo 80) n) x0 (nI t) a best (nI i) σ = _ ∧ B_lend_36 (J_lend_36 n) (nI t) best (nI i) T = _ ∧ _
    unfold BKX1_lend_33 B_lend_36
    have h8 := ev_8 H
    have l0 : aI σ .int (ca + 1 + 0) (nI t) = some (nI L) := by rw [← hR]; exact co_aI c0 (j := 0) (by decide) (show t < 8 by omega)
    have m0 : rdI 170 (T.2.2 20) (nI 1 + nI t) = some (nI L) := by rw [nI_add, ← hR]; exact rd0 r0 (by omega) (us_tp p0 ht h8 (by omega))
    simp only [hx, co_R c0 (j := 0) (by decide), l0, m0, bdS]
    rw [if_pos (nI_lt (show L < i by omega) (by omega)), if_pos (nI_lt (show L < i by omega) (by omega))]
    exact ⟨best, σ, T, rfl, rfl, H, fr.rf, jfr.rf⟩
  | succ c ih =>
    intro i n σ T R' lo' best H hx c0 c1 r0 r1 p0 hi hn
    obtain ⟨n, rfl⟩ : ∃ m, n = m + 1 := ⟨n - 1, by omega⟩
    show ∃ v σ' T', BKX1_lend_33 (KX_fo 80) (KX1_lend_33 (KX_fo 80) n) x0 (nI t) a best (nI i) σ = _ ∧ B_lend_36 (J_lend_36 n) (nI t) best (nI i) T = _ ∧ _
    unfold BKX1_lend_33 B_lend_36 KX1_lend_78 J_lend_84
    have h8 := ev_8 H
    have l0 : aI σ .int (ca + 1 + 0) (nI t) = some (nI L) := by rw [← hR]; exact co_aI c0 (j := 0) (by decide) (show t < 8 by omega)
    have m0 : rdI 170 (T.2.2 20) (nI (1 + t)) = some (nI L) := by rw [← hR]; exact rd0 r0 (by omega) (us_tp p0 ht h8 (by omega))
    obtain ⟨σ1, s1, d1, f1⟩ := co_sI c1 (j := 0) (i := t) (v := nI L - nI i) (by decide) (show t < 8 by omega)
    have d1 : isCo σ1 x0 a (upd R' (1 + t) (nI L - nI i)) lo' := d1
    have H1 := ev_co H c1 hd f1
    obtain ⟨σ2, s2, H2, d2, f2⟩ := K_odds H1 d1 cx.1 ht
    obtain ⟨T1, u1, q1, g1⟩ := rw_st r1 (by omega) (k := 1 + t) (v := nI L - nI i) (by omega)
    obtain ⟨T2, u2, q2, p2, -, g2⟩ := J_odds_e q1 (by omega) (p0.jf g1) h8 (ev_10 H) cx.1 ht
    have u1 : stA T 20 170 (nI (86 + t)) (nI L - nI i) = some T1 := by rw [show 86 + t = 85 + (1 + t) by omega]; exact u1
    have f12 : fr (coV a va) σ σ2 := (f1.mo fun q hq => Or.inl hq).tr (f2.mo fun q hq => Or.inr hq)
    have c2 : isCo σ2 x0 ca R lo := c0.ke fun q h1 h2 => f12.2 q fun h3 => h3.elim (fun h4 => by have h4 : a ≤ q ∧ q < a + 10 := h4; omega) (fun h4 => ev_vaco H c0 (by rw [← h4]; exact ⟨h1, h2⟩))
    have hx2 : gR σ2 x0 0 2 = some ca := (gR_eq ((f2.2 _ (fun e => by
      have h9 := H.ov
      obtain ⟨w, h9⟩ := h9
      have h2 := ev_x H
      unfold isO at h2
      rw [e, h9] at h2
      cases h2)).trans (f1.2 _ (ev_xco H c1)))).trans hx
    simp only [hx, co_R c0 (j := 0) (by decide), l0, m0, co_R c1 (j := 0) (by decide), s1, u1, co_o d1, s2, u2, nI_add, bdS]
    rw [if_neg (nI_nlt (show i ≤ L by omega) (by omega)), if_neg (nI_nlt (show i ≤ L by omega) (by omega))]
    have fin : ∀ best : Int32, ∃ v σ' T', KX1_lend_33 (KX_fo 80) n x0 (nI t) a best (nI (i + 1)) σ2 = some (.inl (v, σ')) ∧ J_lend_36 n (nI t) best (nI (i + 1)) T2 = some (v, T') ∧ isEnv σ' x0 h0 pa va P ∧ fr (coV a va) σ σ' ∧ jfr 85 T T' := by
      intro best
      obtain ⟨v, σ3, T3, s3, u3, H3, f3, g3⟩ := ih (i + 1) n σ2 T2 _ _ best H2 hx2 c2 d2 (r0.jq (jq.jf (g1.tr g2))) q2 p2 (by omega) (by omega)
      exact ⟨v, σ3, T3, s3, u3, H3, f12.tr f3, (g1.tr g2).tr g3⟩
    by_cases e : oddR P (upd R' (1 + t) (nI L - nI i)) t < nI 7
    · rw [if_pos e, if_pos e]
      exact fin _
    · rw [if_neg e, if_neg e]
      exact fin _
theorem o_lend (Q : isQ x0 h0 pa va ca P R lo σ T) (x1 : Int32) : ans va 20 200 [(nse, nI 1)] σ T (KX1_lend (KX_fo 80) x0 x1 σ) (J_lend x1 T) := by
  obtain ⟨T0, e0, Q0, hz, f0⟩ := Q.z
  unfold KX1_lend J_lend
  simp only [e0, bdS, ev_x Q0.1]
  rcases g_town Q0.1 Q0.tp hz x1 with ⟨t, ht, rfl, k1, j1⟩ | ⟨k1, j1⟩
  · have h8 := ev_8 Q0.1
    obtain ⟨σ1, s1, H1, c1, f1⟩ := K_odds Q0.1 Q0.co Q0.cx.1 ht
    obtain ⟨T1, u1, r1, p1, e1, g1, w20⟩ := J_odds_f Q0.rw (by omega) Q0.tp h8 (ev_10 Q0.1) Q0.cx.1 ht
    have F1 : fa (fun q => q = va) 0 0 σ σ1 := fa.off f1
    have g1q : jq T0 T1 := ⟨fun k _ => by rw [e1], fun r hr => g1.2.2.1 r (by omega) (by omega) (by omega), fun q hq => by rw [w20]⟩
    have Q1 := (Q0.k H1 F1).j g1q
    have hz1 : T1.1 0 = 0 := by rw [e1]; exact hz
    simp only [k1, j1, xbL, bdS, Q0.gc, co_o Q0.co, s1, u1, if_neg s1_ne]
    by_cases h7 : nI 7 ≤ oddR P R t
    · rw [if_pos h7, if_pos h7]
      obtain ⟨σ2, T2, s2, u2, B2, hd, F2, z2, y2, g2, hz2⟩ := Q1.start hz1
      obtain ⟨lo2, H2, c2, r2, p2, i2⟩ := B2
      obtain ⟨L, hL, eL⟩ := rI_n (m := 9999) (Q0.inv.1 t (by omega)).1
      have hl := Q1.lt
      have hx2 : gR σ2 x0 0 2 = some ca := (gR_eq (y2 x0 hl.2.1)).trans Q1.gc
      have cc2 : isCo σ2 x0 ca R lo := Q1.co.ke fun q h1 h2 => y2 q (by omega)
      obtain ⟨v, σ3, T3, s3, u3, H3, f3, g3⟩ := lend_loop (σ := σ2) Q0.cx ht hL hl.2.2 hd hx2 eL (L + 1) 0 NN σ2 T2 _ _ (nI 0) H2 hx2 cc2 c2 (Q1.rw.jq g2) r2 p2 (by omega) (by unfold NN; omega)
      simp only [Q1.gc, co_o Q1.co, s2, u2, s3, u3, bdS]
      exact ans.ok (g3.z.trans hz2) (((F1.tr F2 (fun _ _ h => h)).coV (by rw [f1.1]; exact Nat.le_refl _) f3).mo (fun _ h => h) (by omega) (by omega)) H3.ov (((f0.tr g1q).tr g2).tr (jq.jf g3))
    · rw [if_neg h7, if_neg h7]
      exact ans.ok hz1 (F1.mo (fun _ h => h) (by omega) (by omega)) H1.ov (f0.tr g1q)
  · simp only [k1, j1, xbR, bdS, if_pos nI_0]
    exact ans.th (List.mem_cons_self ..) F_s (by omega) (by omega) Q0.1.ov (f0.tr jq.t0)
end QQ
