/-! the plain law: acts -/
set_option maxRecDepth 100000
section AX
variable {ad a own : Nat → Nat} {hC h0 : Nat → Option vv_E} {P : pvT} {R : Nat → Int32} {lo : Int32} {n : Nat} {A : Nat → Nat → Int32} {S : seT} {tp : Nat} {i5 : Int32} {v9 v10 v11 : Value} {sd : Int32} {σ σ' : vv_S} {T T' : tw_T} {x0 ot o : Nat}
theorem J_dgo (hQ : invP P) (h6 : six P) (h8 : P.1.1 ≤ 8) (h10 : P.1.2.2 ≤ 10) (m : Nat) (hm : m < 2 ^ 31) : ∀ (c i n : Nat) (T : tw_T) (R : Nat → Int32), isRw T 0 R → isTp T P → invR P R → i + c = m → c < n → ∃ T', J_days_41 n (nI m) (nI i) T = some (itR P c R 0, T') ∧ isRw T' 0 (itR P c R) ∧ isTp T' P ∧ invR P (itR P c R) ∧ jfr 0 T T' := by
  intro c
  induction c with
  | zero =>
    intro i n T R h hP hI hi hn
    obtain ⟨n, rfl⟩ : ∃ m, n = m + 1 := ⟨n - 1, by omega⟩
    show ∃ T', B_days_41 (J_days_41 n) (nI m) (nI i) T = _ ∧ _
    unfold B_days_41
    rw [if_pos (nI_le (by omega) (by omega)), rd0 h (by omega) us_0]
    exact ⟨T, rfl, h, hP, hI, jfr.rf⟩
  | succ c ih =>
    intro i n T R h hP hI hi hn
    obtain ⟨n, rfl⟩ : ∃ m, n = m + 1 := ⟨n - 1, by omega⟩
    show ∃ T', B_days_41 (J_days_41 n) (nI m) (nI i) T = _ ∧ _
    unfold B_days_41
    rw [if_neg (nI_ge (show i < m by omega) (by omega)), nI_add]
    obtain ⟨T1, s1, c1, p1, -, f1⟩ := J_day_e h (by omega) hP hI hQ h6 h8 h10
    obtain ⟨T2, s2, c2, p2, i2, f2⟩ := ih (i + 1) n T1 _ c1 p1 (inv_day hI hQ h8 h10) (by omega) (by omega)
    rw [s1]
    exact ⟨T2, s2, c2, p2, i2, f1.tr f2⟩
theorem RL.days (h : RL ad hC x0 ot o σ T) (x1 : Int32) : op0 ad hC x0 ot o σ (KX1_days (KX_fo 80) ad x0 x1 σ) (J_days x1 T) := by
  obtain ⟨a, own, h0, P, R, lo, n, A, S, tp, i5, v9, v10, v11, sd, e1, e2, e3, H⟩ := h
  subst e1 e2 e3
  obtain ⟨T0, e0, H0, hz⟩ := H.z
  have hQ := H0.isQ
  have ref : op0 ad hC (a 20) (a 21) (a 22) σ (KX1_days_25 (KX_fo 80) ad (a 20) σ) (J_days_29 T0) := by
    obtain ⟨σ1, T1, k1, j1, H1, f1, -⟩ := H0.refuse (show 1 < 3 by omega)
    refine ⟨-1, σ1, T1, ?_, ?_, H1.rr (fun _ _ => rfl), f1.mo (by omega) (by omega)⟩
    · unfold KX1_days_25; simp only [ev_x hQ.1, k1, bdS]
    · unfold J_days_29; simp only [j1, bdS]
  unfold KX1_days J_days
  simp only [e0, bdS, K_in, J_within_e]
  rcases in_rng x1 (a := 1) (b := 30) (by omega) (by omega) with ⟨m, m1, m2, rfl, hr⟩ | hr
  · rw [if_neg hr, if_neg s1_ne, if_neg s1_ne]
    simp only [hQ.gc, co_9 hQ.co, rd0 hQ.rw (show 0 < 85 by omega) us_0, bdS]
    by_cases hd : R 0 + nI m ≤ nI 999
    · rw [if_pos hd, if_pos hd]
      obtain ⟨σ1, T1, a', own', h0', n', A', ha, k1, j1, H1, f1, z1, u1⟩ := H0.keep'
      have e20 := ha 20 (by omega)
      have hQ1 := H1.isQ
      obtain ⟨σ2, lo2, k2, E2, C2, fr2⟩ := K_after hQ1.1 hQ1.co hQ1.cx.1 H1.hd (m := m) (by omega)
      obtain ⟨T2, j2, r2, p2, i2, g2⟩ := J_dgo hQ1.cx.2 hQ1.cx.1 (ev_8 hQ1.1) (ev_10 hQ1.1) m (by omega) m 0 NN T1 R hQ1.rw hQ1.tp hQ1.inv (by omega) (by unfold NN; omega)
      have f2 := H1.fo (fa.off fr2)
      have f3 := H1.fcA f2
      rw [ha 21 (by omega), ha 22 (by omega)] at f3
      refine ⟨itR P m R 0, σ2, T2, ?_, ?_, (H1.row f2 E2.ov C2 i2 r2 g2.jz).rr ha, (f1.tr f3).mo (by omega) (by omega)⟩
      · have gc := hQ1.gc
        rw [e20] at gc
        simp only [ev_x hQ.1, k1, gc, co_o hQ1.co, k2, co_9 C2, bdS]
      · simp only [j1, j2, bdS]
    · rw [if_neg hd, if_neg hd]
      exact ref
  · rw [if_pos hr, if_pos nI_0, if_pos nI_0]
    exact ref
/-- refused, behind the guards -/
theorem Rl.ref2 {cs : List (String × Int32)} (H : Rl ad hC a own h0 P R lo n A S tp i5 v9 v10 v11 sd σ T) (hz : T.1 0 = 0) {w : Nat} (hw : w < 3) : opA ad hC (a 20) (a 21) (a 22) cs σ ((KX1_refuse (a 20) (nI w) σ).bind fun r1 => some (.inl (r1.1, r1.2))) ((J_refuses (nI w) T).bind fun r1 => some (r1.1, r1.2)) := by
  obtain ⟨σ1, T1, k1, j1, H1, f1, z1⟩ := H.refuse hw
  simp only [k1, j1, bdS]
  exact Or.inl ⟨-1, σ1, T1, rfl, rfl, by rw [z1]; exact hz, H1.rr (fun _ _ => rfl), f1.mo (by omega) (by omega)⟩
theorem Rl.thr {cs : List (String × Int32)} {C : String} {c w : Int32} (H : Rl ad hC a own h0 P R lo n A S tp i5 v9 v10 v11 sd σ T) (hc : (C, c) ∈ cs) : opA ad hC (a 20) (a 21) (a 22) cs σ (some (.inr ((C, σ.2.1), tS σ))) (some (w, tw_F T 0 c)) := by
  refine Or.inr ⟨C, c, σ.2.1, tS σ, w, _, hc, rfl, rfl, F_s, (H.q ((fa_tS (S := fun q => q = a 0)).mo (fun _ h => h) (Nat.le_refl _) (Nat.le_refl _)) ?_ jq.t0).rr (fun _ _ => rfl), ⟨by unfold tS; dsimp only; omega, rfl, fun _ _ _ => rfl⟩⟩
  exact H.2.2.2.1.1
theorem RL.opn (h : RL ad hC x0 ot o σ T) (x1 : Int32) : opA ad hC x0 ot o [(nse, nI 1)] σ (KX1_open ad x0 x1 σ) (J_open x1 T) := by
  obtain ⟨a, own, h0, P, R, lo, n, A, S, tp, i5, v9, v10, v11, sd, e1, e2, e3, H⟩ := h
  subst e1 e2 e3
  obtain ⟨T0, e0, H0, hz⟩ := H.z
  have hQ := H0.isQ
  unfold KX1_open J_open
  simp only [e0, bdS, ev_x hQ.1]
  rcases g_crate hQ.1 hQ.tp hz x1 with ⟨k, hk, rfl, k1, j1⟩ | ⟨k1, j1⟩
  · have h10 := ev_10 hQ.1
    simp only [k1, j1, xbL, bdS, if_neg s1_ne, hQ.gc, co_o hQ.co, K_lies hQ.co (show k < 10 by omega), J_lies_e hQ.rw (by omega) hQ.tp.2.2.1 hk h10, ev_x hQ.1]
    by_cases hl : liesR R k
    · rw [if_pos hl, if_neg s1_ne, if_neg s1_ne]
      obtain ⟨σ1, T1, a', own', h0', n', A', ha, q1, w1, H1, f1, z1, u1⟩ := H0.keep'
      have e20 := ha 20 (by omega)
      have hQ1 := H1.isQ
      obtain ⟨t, ht, hw⟩ := inv_town_ix hQ1.inv (show k < 10 by omega) hl.1
      have h8 := ev_8 hQ.1
      obtain ⟨σ2, q2, C2, fr2⟩ := K_open hQ1.co (show k < 10 by omega) (show t < 8 by omega) hw
      obtain ⟨T2, w2, r2, y2, g2⟩ := J_opens_e hQ1.rw (by omega) hQ1.inv hQ1.tp h8 h10 hk ht hw hl.2
      have f2 := H1.fo (fa.off (fr2.mo fun q hq => Or.inl hq))
      have f3 := H1.fcA f2
      rw [ha 21 (by omega), ha 22 (by omega)] at f3
      have hx2 := ev_vaco hQ1.1 hQ1.co
      obtain ⟨u, hu⟩ := hQ1.1.ov
      have gc := hQ1.gc
      rw [e20] at gc
      simp only [q1, w1, gc, co_o hQ1.co, q2, w2, nI_add, rd0 hQ1.rw (show 25 + k < 85 by omega) (us_cq hQ1 (by omega) (by omega)), bdS]
      exact Or.inl ⟨_, σ2, T2, rfl, rfl, by rw [y2, z1]; exact hz, (H1.row f2 ⟨u, (fr2.2 _ hx2).trans hu⟩ C2 (inv_open hQ1.inv (by omega) (by omega)) r2 g2.jz).rr ha, (f1.tr f3).mo (by omega) (by omega)⟩
    · rw [if_neg hl, if_pos nI_0, if_pos nI_0]
      exact H0.ref2 hz (by omega)
  · simp only [k1, j1, xbR, bdS, if_pos nI_0]
    exact H0.thr (List.mem_cons_self ..)
theorem RL.cat (h : RL ad hC x0 ot o σ T) (x1 x2 : Int32) (hx : x2 = nI 0 ∨ x2 = nI 1) : opA ad hC x0 ot o [(nse, nI 1)] σ (KX1_cat ad x0 x1 x2 σ) (J_cat x1 x2 T) := by
  obtain ⟨a, own, h0, P, R, lo, n, A, S, tp, i5, v9, v10, v11, sd, e1, e2, e3, H⟩ := h
  subst e1 e2 e3
  obtain ⟨T0, e0, H0, hz⟩ := H.z
  have hQ := H0.isQ
  unfold KX1_cat J_cat
  simp only [e0, bdS, ev_x hQ.1]
  rcases g_crate hQ.1 hQ.tp hz x1 with ⟨k, hk, rfl, k1, j1⟩ | ⟨k1, j1⟩
  · have h10 := ev_10 hQ.1
    have hk10 : k < 10 := by omega
    have l6 : aI σ .int (a 2 + 1 + 6) (nI k) = some (R (55 + k)) := co_aI hQ.co (j := 6) (by decide) hk10
    have l5 : aI σ .int (a 2 + 1 + 5) (nI k) = some (R (45 + k)) := co_aI hQ.co (j := 5) (by decide) hk10
    have ref : opA ad hC (a 20) (a 21) (a 22) [(nse, nI 1)] σ (KX1_cat_40 ad (a 20) σ) (J_cat_51 T0) := by
      obtain ⟨σ1, T1, q1, w1, H1, f1, z1⟩ := H0.refuse (show 1 < 3 by omega)
      have q2 := q1
      unfold KX1_refuse at q2
      unfold KX1_cat_40 J_cat_51 J_cat_64
      simp only [w1, bdS]
      rw [if_pos (show (-1 : Int32) ≤ 0 by decide)]
      simp only [zr0, bdS]
      obtain ⟨rf, r1, -⟩ := H0.2.2.2.2.2.2.1
      have g6 : gR σ (a 20) 0 6 = some (a 6) := by unfold gR gV; rw [H0.2.1]; rfl
      have r2 : aI σ .int (a 6) (nI 1) = some (rf 1) := aI_at r1 (by omega) (by omega)
      simp only [g6, r2, bdS] at q2 ⊢
      cases hs : sI σ (a 6) (nI 1) (rf 1 + nI 1) with
      | none => rw [hs] at q2; cases q2
      | some σ9 =>
        rw [hs] at q2
        have e9 : σ9 = σ1 := by
          simp only [bdS] at q2
          injection q2 with q2
          exact congrArg Prod.snd q2
        rw [e9]
        exact Or.inl ⟨nI 0, σ1, T1, rfl, rfl, by rw [z1]; exact hz, H1.rr (fun _ _ => rfl), f1.mo (by omega) (by omega)⟩
    have main : ∀ v, (v = 0 ∨ v = 1) → opA ad hC (a 20) (a 21) (a 22) [(nse, nI 1)] σ ((gR σ (a 20) 0 2).bind fun v4 => (gR σ v4 2 6).bind fun v5 => (aI σ .int v5 (nI k)).bind fun v6 => if v6 = (-1) then (KX1_cat_40 ad (a 20) σ) else ((gR σ (a 20) 0 2).bind fun v8 => (gR σ v8 2 5).bind fun v9 => (aI σ .int v9 (nI k)).bind fun v10 => if v10 = (nI 1) then (KX1_cat_36 ad (nI 1) (a 20) (nI k) (nI v) σ) else (KX1_cat_36 ad (nI 0) (a 20) (nI k) (nI v) σ))) (J_cat_24 (nI v) (nI k) T0) := by
      intro v hv
      unfold J_cat_24
      simp only [hQ.gc, co_R hQ.co (j := 6) (by decide), co_R hQ.co (j := 5) (by decide), l6, l5, nI_add, rd0 hQ.rw (show 55 + k < 85 by omega) (us_cq hQ (by omega) (by omega)), rd0 hQ.rw (show 45 + k < 85 by omega) (us_cq hQ (by omega) (by omega)), bdS]
      by_cases hw : R (55 + k) = -1
      · rw [if_pos hw, if_pos hw]
        exact ref
      · rw [if_neg hw, if_neg hw]
        obtain ⟨c, hc, ec⟩ := rI_n (m := 1) (hQ.inv.2 k hk10).2.2.1
        have hif : (if R (45 + k) = nI 1 then KX1_cat_36 ad (nI 1) (a 20) (nI k) (nI v) σ else KX1_cat_36 ad (nI 0) (a 20) (nI k) (nI v) σ) = KX1_cat_36 ad (R (45 + k)) (a 20) (nI k) (nI v) σ := by
          rw [ec]
          rcases (show c = 0 ∨ c = 1 by omega) with rfl | rfl
          · rw [if_neg n01]
          · rw [if_pos rfl]
        rw [hif]
        unfold KX1_cat_36
        by_cases he : R (45 + k) = nI v
        · rw [if_pos he, if_pos he]
          exact ref
        · rw [if_neg he, if_neg he]
          obtain ⟨σ1, T1, a', own', h0', n', A', ha, q1, w1, H1, f1, z1, u1⟩ := H0.keep'
          have e20 := ha 20 (by omega)
          have hQ1 := H1.isQ
          obtain ⟨σ2, q2, C2, fr2⟩ := co_sI hQ1.co (j := 5) (i := k) (v := nI v) (by decide) hk10
          have C2 : isCo σ2 (a' 20) (a' 2) (upd R (45 + k) (nI v)) lo := C2
          obtain ⟨T2, w2, r2, g2⟩ := rw_st hQ1.rw (by omega) (k := 45 + k) (v := nI v) (by omega)
          rw [Nat.zero_add] at w2
          have f2 := H1.fo (fa.off (fr2.mo fun q hq => Or.inl hq))
          have f3 := H1.fcA f2
          rw [ha 21 (by omega), ha 22 (by omega)] at f3
          have hx2 := ev_vaco hQ1.1 hQ1.co
          obtain ⟨u, hu⟩ := hQ1.1.ov
          have gc := hQ1.gc
          rw [e20] at gc
          have hi : invR P (upd R (45 + k) (nI v)) := inv_u hQ1.inv (by
            have e0 := ti_n (n := v) (by omega)
            exact ⟨fun a c => by omega, fun a c => by omega, fun _ _ => ⟨by rw [e0]; omega, by rw [e0]; omega⟩, fun a c => by omega, fun a c => by omega⟩)
          have e73 : (if nI v = 0 then KX1_cat_73 ad (a' 2 + 1 + 5) (nI k) (nI 0) σ1 else KX1_cat_73 ad (a' 2 + 1 + 5) (nI k) (nI 1) σ1) = KX1_cat_73 ad (a' 2 + 1 + 5) (nI k) (nI v) σ1 := by
            rcases hv with rfl | rfl
            · rw [if_pos nI_0]
            · rw [if_neg s1_ne]
          simp only [q1, w1, gc, co_R hQ1.co (j := 5) (by decide), w2, ev_x hQ.1, bdS]
          rw [e73]
          unfold KX1_cat_73
          simp only [q2, bdS]
          exact Or.inl ⟨nI 1, σ2, T2, rfl, rfl, by rw [g2.2.1 0 (by omega), z1]; exact hz, (H1.row f2 ⟨u, (fr2.2 _ hx2).trans hu⟩ C2 hi r2 g2.jz).rr ha, (f1.tr f3).mo (by omega) (by omega)⟩
    simp only [k1, j1, xbL, bdS, if_neg s1_ne]
    rcases hx with rfl | rfl
    · rw [if_pos nI_0]
      exact main 0 (Or.inl rfl)
    · rw [if_neg s1_ne]
      exact main 1 (Or.inr rfl)
  · simp only [k1, j1, xbR, bdS, if_pos nI_0]
    exact H0.thr (List.mem_cons_self ..)
end AX
