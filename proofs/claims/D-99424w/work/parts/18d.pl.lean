/-! the plain law: what is seen -/
set_option maxRecDepth 100000
section SE
variable {ad a own : Nat → Nat} {hC h0 : Nat → Option vv_E} {P : pvT} {R : Nat → Int32} {lo : Int32} {n : Nat} {A : Nat → Nat → Int32} {S : seT} {tp : Nat} {i5 : Int32} {v9 v10 v11 : Value} {sd : Int32} {σ σ' : vv_S} {T T' : tw_T} {x0 ot o : Nat}
/-- more is seen -/
theorem Rl.seen {own' : Nat → Nat} {e' cap' : Nat} {gS' : Nat → Nat} {S' : seT} (H : Rl ad hC a own h0 P R lo n A S tp i5 v9 v10 v11 sd σ T) (hf : ∀ q, q < σ.2.1 → own q ≠ 9 → own q ≠ 19 → σ'.1 q = σ.1 q) (hM' : rlM ad hC (upA a 18 e') own' h0 σ') (M : isMc σ' ad (a 8) e' cap' S'.1 gS') (hcap : cap' ≤ 64) (hk : seO h0 S' gS') (hA' : sJ T' S') (hS' : sOk P S') (g : jB T T') : Rl ad hC (upA a 18 e') own' h0 P R lo n A S' tp i5 v9 v10 v11 sd σ' T' := by
  obtain ⟨hM, hX, hP, hc, hU, hT, hF, hA, -, hI, hJ⟩ := H
  have kp : ∀ t, t ≠ 9 → t ≠ 19 → Kp own t σ σ' := fun t h1 h2 q q1 q2 => hf q q1 (by rw [q2]; exact h1) (by rw [q2]; exact h2)
  obtain ⟨cS, gS, s1, s2, s3⟩ := hA
  have c0 : σ'.1 (ad 0) = σ.1 (ad 0) := by
    obtain ⟨b, gg, h9⟩ := hM.2.2.2.2.1.2.1
    exact (hM'.2.2.1 _ _ (hM.2.2.2.1 _ _ h9)).trans (hM.2.2.1 _ _ (hM.2.2.2.1 _ _ h9)).symm
  have c1 : σ'.1 (ad 1) = σ.1 (ad 1) := by
    obtain ⟨b1, gg1, h8⟩ := hM.2.2.2.2.2.1
    exact (hM'.2.2.1 _ _ (hM.2.2.2.1 _ _ h8)).trans (hM.2.2.1 _ _ (hM.2.2.2.1 _ _ h8)).symm
  obtain ⟨a1, a2, a3, a4, a5, a6, a7, a8⟩ := hJ
  exact ⟨hM', (kp 21 (by omega) (by omega) _ hM.1.m20.2 hM.1.m20.1).trans hX, hP, hc.k hM.1 (kp 1 (by omega) (by omega)) (kp 3 (by omega) (by omega)), hU.k hM.1 (kp 13 (by omega) (by omega)) (kp 14 (by omega) (by omega)), hT.k hM.1 (kp 4 (by omega) (by omega)) (g.2 8 (by omega)), hF.k hM.1 (kp 7 (by omega) (by omega)) (g.2 9 (by omega)), ⟨cS, gS, s1.ke (kp 8 (by omega) (by omega) _ hM.1.m7.2 hM.1.m7.1) (mc_e s1 hM.1 (Or.inl rfl) rfl (kp 18 (by omega) (by omega)) c0 c1) (fun i hi _ => s3.any hM'.2.2.1 i hi), s2, s3⟩, ⟨cap', gS', M, hcap, hk⟩, hI.k (fun k h1 h2 => g.1 k (by omega)) (fun r h1 h2 => g.2 r (by omega)) (g.1 1 (by omega)) (g.1 3 (by omega)), ⟨a1.of (fun k h1 h2 => g.1 k (by omega)) (fun k h1 h2 => g.2 k (by omega)), a2.of (g.2 20 (by omega)) (g.1 1 (by omega)) (g.1 3 (by omega)), a3.k (g.1 44 (by omega)) (g.2 21 (by omega)) (g.1 1 (by omega)) (g.1 3 (by omega)), hA', hS', (g.1 13 (by omega)).trans a6, a7, (g.1 15 (by omega)).trans a8⟩⟩
theorem sI_a {b m i : Nat} {v : Int32} {f : Nat → Int32} (h : σ.1 b = some (true, .inl (.int, m, .inl f))) (hi : i < m) (hm : m < 2 ^ 31) : sI σ b (nI i) v = some (vv_up σ.1 b (true, .inl (.int, m, .inl (upd f i v))), σ.2) := by
  unfold sI
  rw [h]
  show (if FieldType.int = FieldType.int ∧ ¬ ((nI i) < 0 ∨ m ≤ (nI i).toNatClampNeg) then _ else none) = _
  rw [if_pos ⟨rfl, nI_in hi hm⟩, nI_clamp (by omega)]
theorem RL.see (h : RL ad hC x0 ot o σ T) (x1 x2 x3 : Int32) : opA ad hC x0 ot o [(nse, nI 1)] σ (KX1_see ad x0 x1 x2 x3 σ) (J_see x1 x2 x3 T) := by
  obtain ⟨a, own, h0, P, R, lo, n, A, S, tp, i5, v9, v10, v11, sd, e1, e2, e3, H⟩ := h
  subst e1 e2 e3
  obtain ⟨T0, e0, H0, hz⟩ := H.z
  have hQ := H0.isQ
  have hJ := H0.2.2.2.2.2.2.2.2.2.2
  have hS8 := hJ.2.2.2.2.1
  have h52 := hJ.2.2.2.1.1
  unfold KX1_see J_see
  simp only [e0, bdS, ev_x hQ.1]
  have ref : opA ad hC (a 20) (a 21) (a 22) [(nse, nI 1)] σ (KX1_see_40 ad (a 20) σ) (J_see_45 T0) := by
    unfold KX1_see_40 J_see_45
    simp only [ev_x hQ.1, bdS]
    exact H0.ref2 hz (by omega)
  rcases g_town hQ.1 hQ.tp hz x1 with ⟨t, ht, rfl, k1, j1⟩ | ⟨k1, j1⟩
  · obtain ⟨capS, gS0, p1, -⟩ := H0.2.2.2.2.2.2.2.2.1
    have g8 : ∀ {τ : vv_S}, τ.1 (a 20) = σ.1 (a 20) → gR τ (a 20) 0 8 = some (a 8) := fun e => by unfold gR gV; rw [e, H0.2.1]; rfl
    simp only [k1, j1, xbL, bdS, if_neg s1_ne, g8 rfl, li_o p1.li, li_size p1.li, h52]
    by_cases h8 : nI S.1 = nI 8
    · rw [if_pos h8, if_pos h8]
      exact ref
    · rw [if_neg h8, if_neg h8]
      have hlt8 : S.1 < 8 := by
        have := hS8.1
        by_cases e : S.1 = 8
        · exact absurd (by rw [e]) h8
        · omega
      simp only [K_in, J_within_e, bdS]
      rcases in_rng x2 (a := 0) (b := 30) (by omega) (by omega) with ⟨d, -, hd, rfl, hr⟩ | hr
      · rw [if_neg hr, if_neg s1_ne, if_neg s1_ne]
        rcases in_rng x3 (a := 0) (b := 9999) (by omega) (by omega) with ⟨v, -, hv, rfl, hr3⟩ | hr3
        · rw [if_neg hr3, if_neg s1_ne, if_neg s1_ne]
          obtain ⟨σ1, s1, z1, c1, k1⟩ := nw8 (σ := σ) (k := 3) (by omega)
          obtain ⟨σ2, hσ2⟩ : ∃ τ : vv_S, τ = (vv_up σ1.1 σ.2.1 (true, .inl (.int, 3, .inl (upd (fun _ => 0) 0 (nI t)))), σ1.2) := ⟨_, rfl⟩
          have s2 : sI σ1 σ.2.1 (nI 0) (nI t) = some σ2 := by rw [hσ2]; exact sI_a c1 (by omega) (by omega)
          have c2 : σ2.1 σ.2.1 = some (true, .inl (.int, 3, .inl (upd (fun _ => 0) 0 (nI t)))) := by rw [hσ2]; exact up_s
          have k2 : ∀ q, q ≠ σ.2.1 → σ2.1 q = σ1.1 q := fun q hq => by rw [hσ2]; exact up_n hq
          obtain ⟨σ3, hσ3⟩ : ∃ τ : vv_S, τ = (vv_up σ2.1 σ.2.1 (true, .inl (.int, 3, .inl (upd (upd (fun _ => 0) 0 (nI t)) 1 (nI d)))), σ2.2) := ⟨_, rfl⟩
          have s3 : sI σ2 σ.2.1 (nI 1) (nI d) = some σ3 := by rw [hσ3]; exact sI_a c2 (by omega) (by omega)
          have c3 : σ3.1 σ.2.1 = some (true, .inl (.int, 3, .inl (upd (upd (fun _ => 0) 0 (nI t)) 1 (nI d)))) := by rw [hσ3]; exact up_s
          have k3 : ∀ q, q ≠ σ.2.1 → σ3.1 q = σ2.1 q := fun q hq => by rw [hσ3]; exact up_n hq
          obtain ⟨σ4, hσ4⟩ : ∃ τ : vv_S, τ = (vv_up σ3.1 σ.2.1 (true, .inl (.int, 3, .inl (upd (upd (upd (fun _ => 0) 0 (nI t)) 1 (nI d)) 2 (nI v)))), σ3.2) := ⟨_, rfl⟩
          have s4 : sI σ3 σ.2.1 (nI 2) (nI v) = some σ4 := by rw [hσ4]; exact sI_a c3 (by omega) (by omega)
          have c4 : σ4.1 σ.2.1 = some (true, .inl (.int, 3, .inl (upd (upd (upd (fun _ => 0) 0 (nI t)) 1 (nI d)) 2 (nI v)))) := by rw [hσ4]; exact up_s
          have k4 : ∀ q, q ≠ σ.2.1 → σ4.1 q = σ3.1 q := fun q hq => by rw [hσ4]; exact up_n hq
          have z4 : σ4.2 = (σ.2.1 + 1, σ.2.2 + 3) := by rw [hσ4, hσ3, hσ2]; exact z1
          have o4 : ∀ q, q < σ.2.1 → σ4.1 q = σ.1 q := fun q hq => by rw [k4 q (by omega), k3 q (by omega), k2 q (by omega), k1 q (by omega)]
          have f4 : fa (fun _ => False) 1 3 σ σ4 := ⟨by rw [z4]; dsimp only; omega, fun q h1 _ => o4 q h1⟩
          have H2 := (H0.mem H0.1.eo sub.rf).al f4
          have H3 := H2.mem (H2.1.ex (b := σ.2.1) (e := σ.2.1 + 1) (by rw [z4]; exact Nat.le_refl _) (fun q hq => H0.1.2.1.ge hq)) (ex_s H0.1.2.1 (Nat.le_refl _))
          have hM3 := H3.1
          have hN : σ4.2.1 = σ.2.1 + 1 := by rw [z4]
          obtain ⟨cap, gS, q1, q2, q3⟩ := H3.2.2.2.2.2.2.2.2.1
          have hg := q3.lt hM3.2.1
          have hb : anyK σ4 "java/lang/Object" σ.2.1 = true := by unfold anyK; rw [c4]; rfl
          obtain ⟨σ5, e', cap', s5, M5, D5, fr5⟩ := K_addc (v := σ.2.1) q1 (by omega) ⟨hM3.1.m8.2, lst_lt q1 hM3 (Or.inr rfl), hM3.e0.2, hM3.e1.2⟩ ⟨by omega, hb⟩ (fun i hi => (hg i hi).1)
          have hM4 := hM3.lst (Or.inr rfl) hM3.1.m8.1 q1 D5 fr5
          have hcn := capN_le (ad := ad) (e := a 18) (m := S.1) (by omega)
          have hcap : cap' ≤ 64 := by rcases D5 with ⟨-, -, d, -⟩ | ⟨-, -, d, -⟩ <;> omega
          have hz5 : σ5.2.1 ≤ σ.2.1 + 2 ∧ σ.2.1 ≤ σ5.2.1 ∧ σ5.2.2 ≤ σ.2.2 + 100 ∧ σ.2.2 ≤ σ5.2.2 := by rcases D5 with ⟨-, -, -, d⟩ | ⟨-, -, -, d⟩ <;> rw [d, z4] <;> (try dsimp only) <;> omega
          have hq5 : ∀ q, q < σ4.2.1 → exO own σ.2.1 q ≠ 9 → exO own σ.2.1 q ≠ 19 → σ5.1 q = σ4.1 q := fun q h1 h2 h3 => fr5 q h1 (fun z => h2 (by rw [z]; exact hM3.1.m8.1)) (by
            by_cases hc : cap = 0
            · exact Or.inr hc
            · exact Or.inl fun z => h3 (by rw [z]; exact lst_own q1 hM3.1 (Or.inr rfl) hc))
          have hold : ∀ q, q < σ.2.1 → own q ≠ 9 → own q ≠ 19 → σ5.1 q = σ.1 q := fun q h1 h2 h3 => by
            have e1 : exO own σ.2.1 q = own q := by unfold exO; rw [if_pos h1]
            rw [hq5 q (by omega) (by rw [e1]; exact h2) (by rw [e1]; exact h3), o4 q h1]
          obtain ⟨T', j5, hS5, jf, ja⟩ := J_see_s (t := t) (d := d) (v := nI v) hJ.2.2.2.1 hlt8
          have hseO : seO (exH h0 σ4 σ.2.1 (σ.2.1 + 1)) (seU S t d (nI v)) (upN gS S.1 σ.2.1) := fun i hi => by
            have hi : i < S.1 + 1 := hi
            by_cases e : i = S.1
            · refine ⟨true, upd (upd (upd (fun _ => 0) 0 (nI t)) 1 (nI d)) 2 (nI v), ?_, ?_, ?_, ?_⟩
              · unfold upN exH
                rw [if_pos e, if_pos ⟨Nat.le_refl _, Nat.lt_succ_self _⟩]
                exact c4
              · show upd _ 2 (nI v) 0 = nI (upN S.2.1 S.1 t i)
                unfold upN
                rw [if_pos e, upd_n (by omega), upd_n (by omega), upd_s]
              · show upd _ 2 (nI v) 1 = nI (upN S.2.2.1 S.1 d i)
                unfold upN
                rw [if_pos e, upd_n (by omega), upd_s]
              · show upd _ 2 (nI v) 2 = (if i = S.1 then nI v else S.2.2.2 i)
                rw [if_pos e, upd_s]
            · obtain ⟨b, fe, w1, w2, w3, w4⟩ := q3 i (by omega)
              refine ⟨b, fe, ?_, ?_, ?_, ?_⟩
              · unfold upN
                rw [if_neg e]
                exact w1
              · show fe 0 = nI (upN S.2.1 S.1 t i)
                unfold upN
                rw [if_neg e]; exact w2
              · show fe 1 = nI (upN S.2.2.1 S.1 d i)
                unfold upN
                rw [if_neg e]; exact w3
              · show fe 2 = (if i = S.1 then nI v else S.2.2.2 i)
                rw [if_neg e]; exact w4
          have hsOk : sOk P (seU S t d (nI v)) := ⟨hlt8, fun i hi => by
            have hi : i < S.1 + 1 := hi
            show upN S.2.1 S.1 t i < P.1.1 ∧ upN S.2.2.1 S.1 d i ≤ 30
            unfold upN
            by_cases e : i = S.1
            · rw [if_pos e, if_pos e]; exact ⟨ht, hd⟩
            · rw [if_neg e, if_neg e]; exact hS8.2 i (by omega)⟩
          have H5 := H3.seen (S' := seU S t d (nI v)) (T' := T') hq5 hM4 M5 hcap hseO hS5 hsOk ⟨jf, ja⟩
          have hx5 : σ5.1 (a 20) = σ.1 (a 20) := hold _ H.1.1.m20.2 (by rw [H.1.1.m20.1]; omega) (by rw [H.1.1.m20.1]; omega)
          have F : fC (a 21) (a 22) 2 100 σ σ5 := ⟨by omega, hold _ H.1.1.m21.2 (by rw [H.1.1.m21.1]; omega) (by rw [H.1.1.m21.1]; omega), fun q q1 q2 => by
            have h9 := H.1.1.m22 ⟨q1, q2⟩
            exact hold _ h9.2 (by rw [h9.1]; omega) (by rw [h9.1]; omega)⟩
          simp only [bdS, h52] at j5
          simp only [s1, s2, s3, s4, li_o q1.li, s5, g8 hx5, li_o M5.li, li_size M5.li, j5, bdS]
          exact Or.inl ⟨_, σ5, T', rfl, rfl, by rw [jf 0 (by omega)]; exact hz, H5.rr' rfl rfl rfl, F.mo (by omega) (by omega)⟩
        · rw [if_pos hr3, if_pos nI_0, if_pos nI_0]
          exact ref
      · rw [if_pos hr, if_pos nI_0, if_pos nI_0]
        exact ref
  · simp only [k1, j1, xbR, bdS, if_pos nI_0]
    exact H0.thr (List.mem_cons_self ..)
end SE
