/-! the plain law: restored -/
set_option maxRecDepth 100000
section RS
variable {ad a own : Nat → Nat} {hC h0 : Nat → Option vv_E} {P : pvT} {R : Nat → Int32} {lo : Int32} {n : Nat} {A : Nat → Nat → Int32} {S : seT} {tp : Nat} {i5 : Int32} {v9 v10 v11 : Value} {sd : Int32} {σ σ' : vv_S} {T T' : tw_T} {x0 ot o : Nat}
theorem mc_fz {l e cap : Nat} {g : Nat → Nat} {N : Nat} (M : isMc (h0, 0, 0) ad l e cap n g) (hf : frz h0 own N) : l < N ∧ e < N := by
  obtain ⟨mc, b, gg, k1, k2, -⟩ := M
  exact ⟨(hf _ _ k1).2, (hf _ _ k2).2⟩
theorem gR_nw {τ : vv_S} {x k v : Nat} {fs : List Value} (hl : x < τ.2.1) (hx : τ.1 x = some (true, .inr (0, fs))) (hk : fs[k]? = some (.ref v)) : gR (nwO τ 11 [.int 0, .null, .int 0] 3) x 0 k = some v := by
  unfold gR gV
  rw [show (nwO τ 11 [.int 0, .null, .int 0] 3).1 x = _ from (up_n (by omega)).trans hx]
  show (if 0 = 0 then fs[k]? else none).bind asR = _
  rw [if_pos rfl, hk]
  rfl
theorem RL.restore (h : RL ad hC x0 ot o σ T) : op0 ad hC x0 ot o σ (KX1_restore ad x0 σ) (J_restore T) := by
  obtain ⟨a, own, h0, P, R, lo, n, A, S, tp, i5, v9, v10, v11, sd, e1, e2, e3, H⟩ := h
  subst e1 e2 e3
  have gV9 : gV σ (a 20) 0 9 = some v9 := by unfold gV; rw [H.2.1]; rfl
  unfold KX1_restore
  simp only [gV9, bdS]
  rcases H.2.2.2.2.2.2.2.2.2.1 with ⟨rfl, h57⟩ | ⟨c9, l10, e10, l11, e11, RI, loI, nI', AI, SI, gA, gS, rfl, rfl, rfl, b4, b5, b6, b7, b8, b9, b10, b11⟩
  · obtain ⟨T0, e0, H0, hz⟩ := H.z
    refine ⟨nI 0, σ, T0, ?_, ?_, H0.rr (fun _ _ => rfl), fC.rf.mo (by omega) (by omega)⟩
    · show ((some true).bind fun b2 => _) = _
      rw [bdS, if_pos rfl]
    · unfold J_restore
      simp only [e0, bdS]
      rw [if_pos]
      rw [← e0, F_n (by omega), h57, nI_0]
  · obtain ⟨T', j1, r', hA', hS', zj, fj, gj⟩ := J_restore_e b11
    obtain ⟨T0, e0, H0, hz⟩ := H.z
    have t0 : ∀ k, k ≠ 0 → T0.1 k = T.1 k := fun k hk => by rw [← e0]; exact F_n hk
    have t02 : ∀ r, T0.2.2 r = T.2.2 r := fun r => by rw [← e0]; rfl
    obtain ⟨Ta, hTa⟩ : ∃ Ta : tw_T, Ta = (T0.1, T0.2.1, fun r => if r = 20 then T'.2.2 20 else T0.2.2 r) := ⟨_, rfl⟩
    obtain ⟨Tb, hTb⟩ : ∃ Tb : tw_T, Tb = (fun k => if k = 44 then T'.1 44 else T0.1 k, T0.2.1, fun r => if r = 20 then T'.2.2 20 else if r = 21 then T'.2.2 21 else T0.2.2 r) := ⟨_, rfl⟩
    have fk : ∀ k, k ≠ 0 → k ≠ 44 → k ≠ 52 → T'.1 k = T0.1 k := fun k h1 h2 h3 => (fj k h1 h2 h3).trans (by rw [← e0, F_n h1])
    have ta1 : ∀ k, Ta.1 k = T0.1 k := fun k => by rw [hTa]
    have ta2 : ∀ r, r ≠ 20 → Ta.2.2 r = T0.2.2 r := fun r hr => by rw [hTa]; exact if_neg hr
    have ta3 : Ta.2.2 20 = T'.2.2 20 := by rw [hTa]; rfl
    have tb1 : ∀ k, k ≠ 44 → Tb.1 k = T0.1 k := fun k hk => by rw [hTb]; exact if_neg hk
    have tb2 : Tb.1 44 = T'.1 44 := by rw [hTb]; rfl
    have tb3 : ∀ r, r ≠ 20 → r ≠ 21 → Tb.2.2 r = T0.2.2 r := fun r h1 h2 => by rw [hTb]; exact (if_neg h1).trans (if_neg h2)
    have tb4 : Tb.2.2 20 = T'.2.2 20 := by rw [hTb]; rfl
    have tb5 : Tb.2.2 21 = T'.2.2 21 := by rw [hTb]; rfl
    have hM := H0.1
    have hx20 := hM.1.m20
    have hn : nI' ≤ 40 := b11.2.2.1
    have c0 : isCo σ (a 20) c9 RI loI := b4.up hM.2.2.1
    obtain ⟨σ1, s1, c1, z1, k1⟩ := K_copy c0 (coEnd b4 hM.2.1)
    have f1 : fa (fun _ => False) 10 96 σ σ1 := ⟨by rw [z1]; dsimp only; omega, fun q h1 _ => k1 q h1⟩
    have H1 := (H0.mem hM.eo sub.rf).al f1
    obtain ⟨σ2, own2, s2, H2, k2, z2⟩ := H1.set2 (T' := Ta) c1 (fun q hq => ⟨exO_ge hq.1, hM.2.1.ge hq.1, by rw [z1]; exact hq.2⟩) b5 (r'.of ta3 ((ta1 1).trans (fk 1 (by omega) (by omega) (by omega)).symm) ((ta1 3).trans (fk 3 (by omega) (by omega) (by omega)).symm)) ⟨fun k _ => ta1 k, fun r hr => ta2 r (by omega)⟩
    have hM2 : rlM ad hC (upA a 2 σ.2.1) own2 h0 σ2 := H2.1
    have hx2 : σ2.1 (a 20) = some (true, .inr (0, xF (upA a 2 σ.2.1) (nI tp) i5 (.ref c9) (.ref l10) (.ref l11) sd)) := H2.2.1
    have m10 := mc_fz b6 hM2.2.1
    have hgA := b7.lt hM2.2.1
    have hx22 : a 20 < σ2.2.1 := hM2.1.m20.2
    obtain ⟨σ3, x3, s3, M3, D3, z3, k3⟩ := K_ncopy (σ := σ2) (b6.up hM2.2.2.1) (by omega) ⟨m10.1, m10.2, hM2.e0.2, hM2.e1.2⟩ hM2.e1.1 (fun i hi => (hgA i hi).1)
    have f3 : fa (fun _ => False) 2 50 σ2 σ3 := ⟨by rw [z3]; dsimp only; omega, fun q h1 _ => k3 q h1⟩
    have H3 := (H2.mem hM2.eo sub.rf).al f3
    have hN3 : σ3.2.1 = σ2.2.1 + 2 := by rw [z3]
    obtain ⟨σ4, own4, s4, H4, k4, z4⟩ := H3.set7 (T' := Tb) (A' := AI) M3 ⟨exO_ge (Nat.le_refl _), hM2.2.1.ge (Nat.le_refl _), by omega⟩ (by
      rcases D3 with ⟨-, d⟩ | ⟨-, d⟩
      · exact Or.inl (Or.inr d)
      · exact Or.inr ⟨⟨exO_ge (by omega), hM2.2.1.ge (by omega), by omega⟩, by omega⟩) (by omega) b7 ⟨tb2.trans hA'.1, hn, fun i k hi hk hu => by rw [tb5]; exact hA'.2.2 i k hi hk (hu.k ((fk 1 (by omega) (by omega) (by omega)).trans (tb1 1 (by omega)).symm) ((fk 3 (by omega) (by omega) (by omega)).trans (tb1 3 (by omega)).symm))⟩ ⟨fun k hk => (tb1 k hk).trans (ta1 k).symm, fun r hr => by
        by_cases e : r = 20
        · rw [e, tb4, ta3]
        · rw [tb3 r e hr, ta2 r e]⟩
    have hM4 : rlM ad hC (upA (upA (upA a 2 σ.2.1) 7 σ2.2.1) 17 x3) own4 h0 σ4 := H4.1
    have hx4 : σ4.1 (a 20) = some (true, .inr (0, xF (upA (upA (upA a 2 σ.2.1) 7 σ2.2.1) 17 x3) (nI tp) i5 (.ref c9) (.ref l10) (.ref l11) sd)) := H4.2.1
    have m11 := mc_fz b8 hM4.2.1
    have hgS := b9.lt hM4.2.1
    have hx24 : a 20 < σ4.2.1 := hM4.1.m20.2
    have hS8 := b10.1
    obtain ⟨σ5, x5, s5, M5, D5, z5, k5⟩ := K_ncopy (σ := σ4) (b8.up hM4.2.2.1) (by omega) ⟨m11.1, m11.2, hM4.e0.2, hM4.e1.2⟩ hM4.e1.1 (fun i hi => (hgS i hi).1)
    have f5 : fa (fun _ => False) 2 50 σ4 σ5 := ⟨by rw [z5]; dsimp only; omega, fun q h1 _ => k5 q h1⟩
    have H5 := (H4.mem hM4.eo sub.rf).al f5
    have hN5 : σ5.2.1 = σ4.2.1 + 2 := by rw [z5]
    obtain ⟨σ6, own6, s6, H6, k6, z6⟩ := H5.set8 (T' := T') (S' := SI) M5 ⟨exO_ge (Nat.le_refl _), hM4.2.1.ge (Nat.le_refl _), by omega⟩ (by
      rcases D5 with ⟨-, d⟩ | ⟨-, d⟩
      · exact Or.inl (Or.inr d)
      · exact Or.inr ⟨⟨exO_ge (by omega), hM4.2.1.ge (by omega), by omega⟩, by omega⟩) (by omega) b9 hS' b10 ⟨fun k hk => by
        by_cases e0 : k = 0
        · rw [e0, zj, tb1 0 (by omega), hz]
        · by_cases e : k = 44
          · rw [e, tb2]
          · rw [fj k e0 e hk, tb1 k e, t0 k e0], fun r hr => by
        by_cases e : r = 20
        · rw [e, tb4]
        · by_cases e1 : r = 21
          · rw [e1, tb5]
          · rw [gj r e e1 hr, tb3 r e e1, t02 r]⟩
    have F : fC (a 21) (a 22) 14 196 σ σ6 := ((fC.nw hM.1 f1).tr (fC.x H1.1.1 k2 z2)).tr (((fC.nw hM2.1 f3).tr (fC.x H3.1.1 k4 z4)).tr ((fC.nw hM4.1 f5).tr (fC.x H5.1.1 k6 z6)))
    refine ⟨nI 1, σ6, T', ?_, j1, H6.rr' rfl rfl rfl, F.mo (by omega) (by omega)⟩
    show ((some false).bind fun b2 => _) = _
    rw [bdS, if_neg (by decide)]
    have r9 : asR (Value.ref c9) = some c9 := rfl
    have s4' : pF σ3 (a 20) 0 7 (.ref σ2.2.1) = some σ4 := s4
    have s6' : pF σ5 (a 20) 0 8 (.ref σ4.2.1) = some σ6 := s6
    simp only [r9, co_o c0, s1, s2, gR_nw hx22 hx2 (k := 10) rfl, s3, s4', gR_nw hx24 hx4 (k := 11) rfl, s5, s6', bdS]
end RS
