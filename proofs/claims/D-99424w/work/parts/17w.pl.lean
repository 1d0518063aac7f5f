/-! the plain law: an act is kept, both -/
set_option maxRecDepth 100000
section RW2
variable {ad a own : Nat → Nat} {hC h0 : Nat → Option vv_E} {P : pvT} {R : Nat → Int32} {lo : Int32} {n : Nat} {A : Nat → Nat → Int32} {S : seT} {tp : Nat} {i5 : Int32} {v9 v10 v11 : Value} {sd : Int32} {σ σ' : vv_S} {T T' : tw_T}
theorem sub.rf {h : Nat → Option vv_E} : sub h h := fun _ _ he => he
/-- other acts -/
theorem Rl.acts {own' : Nat → Nat} {e' cap' n' : Nat} {gA' : Nat → Nat} {A' : Nat → Nat → Int32} (H : Rl ad hC a own h0 P R lo n A S tp i5 v9 v10 v11 sd σ T) (hf : ∀ q, q < σ.2.1 → own q ≠ 8 → own q ≠ 18 → σ'.1 q = σ.1 q) (hM' : rlM ad hC (upA a 17 e') own' h0 σ') (M : isMc σ' ad (a 7) e' cap' n' gA') (hcap : cap' ≤ 64) (hk : keO h0 (a 20) P n' gA' A') (hA' : isAc T' n' A') (g : jA T T') : Rl ad hC (upA a 17 e') own' h0 P R lo n' A' S tp i5 v9 v10 v11 sd σ' T' := by
  obtain ⟨hM, hX, hP, hc, hU, hT, hF, -, hS, hI, hJ⟩ := H
  have kp : ∀ t, t ≠ 8 → t ≠ 18 → Kp own t σ σ' := fun t h1 h2 q q1 q2 => hf q q1 (by rw [q2]; exact h1) (by rw [q2]; exact h2)
  obtain ⟨cS, gS, s1, s2, s3⟩ := hS
  have c0 : σ'.1 (ad 0) = σ.1 (ad 0) := by
    obtain ⟨b, gg, h9⟩ := hM.2.2.2.2.1.2.1
    exact (hM'.2.2.1 _ _ (hM.2.2.2.1 _ _ h9)).trans (hM.2.2.1 _ _ (hM.2.2.2.1 _ _ h9)).symm
  have c1 : σ'.1 (ad 1) = σ.1 (ad 1) := by
    obtain ⟨b1, gg1, h8⟩ := hM.2.2.2.2.2.1
    exact (hM'.2.2.1 _ _ (hM.2.2.2.1 _ _ h8)).trans (hM.2.2.1 _ _ (hM.2.2.2.1 _ _ h8)).symm
  obtain ⟨a1, a2, a3, a4, a5, a6, a7, a8⟩ := hJ
  exact ⟨hM', (kp 21 (by omega) (by omega) _ hM.1.m20.2 hM.1.m20.1).trans hX, hP, hc.k hM.1 (kp 1 (by omega) (by omega)) (kp 3 (by omega) (by omega)), hU.k hM.1 (kp 13 (by omega) (by omega)) (kp 14 (by omega) (by omega)), hT.k hM.1 (kp 4 (by omega) (by omega)) (g.2 8 (by omega)), hF.k hM.1 (kp 7 (by omega) (by omega)) (g.2 9 (by omega)), ⟨cap', gA', M, hcap, hk⟩, ⟨cS, gS, s1.ke (kp 9 (by omega) (by omega) _ hM.1.m8.2 hM.1.m8.1) (mc_e s1 hM.1 (Or.inr rfl) rfl (kp 19 (by omega) (by omega)) c0 c1) (fun i hi _ => s3.any hM'.2.2.1 i hi), s2, s3⟩, hI.k (fun k h1 h2 => g.1 k (by omega)) (fun r h1 h2 => g.2 r (by omega)) (g.1 1 (by omega)) (g.1 3 (by omega)), ⟨a1.of (fun k h1 h2 => g.1 k (by omega)) (fun k h1 h2 => g.2 k (by omega)), a2.of (g.2 20 (by omega)) (g.1 1 (by omega)) (g.1 3 (by omega)), hA', a4.k (g.1 52 (by omega)) (g.2 28 (by omega)), a5, (g.1 13 (by omega)).trans a6, a7, (g.1 15 (by omega)).trans a8⟩⟩
/-- the list's array, whose it is -/
theorem lst_own {l cap : Nat} {g : Nat → Nat} {k : Nat} (M : isMc σ ad l (a k) cap n g) (ho : okO ad a own σ.2.1) (hk : k = 17 ∨ k = 18) (hc : cap ≠ 0) : own (a k) = k + 1 := by
  obtain ⟨mc, b, gg, k1, k2, k3, k4, -⟩ := M
  exact (ho k (a k) (by unfold Mm; omega) (fun _ => ⟨fun z => hc (k4.mpr (Or.inl z)), fun z => hc (k4.mpr (Or.inr z))⟩) (rg_1 (by omega) (by omega))).1
theorem lst_lt {l cap : Nat} {g : Nat → Nat} {k : Nat} (M : isMc σ ad l (a k) cap n g) (hM : rlM ad hC a own h0 σ) (hk : k = 17 ∨ k = 18) : a k < σ.2.1 := by
  by_cases h9 : a k = ad 0 ∨ a k = ad 1
  · rcases h9 with h9 | h9
    · rw [h9]; exact hM.e0.2
    · rw [h9]; exact hM.e1.2
  · exact (hM.1 k (a k) (by unfold Mm; omega) (fun _ => ⟨fun z => h9 (Or.inl z), fun z => h9 (Or.inr z)⟩) (rg_1 (by omega) (by omega))).2
theorem keO.lt {gA : Nat → Nat} {N : Nat} (h : keO h0 (a 20) P n gA A) (hf : frz h0 own N) : ∀ i, i < n → gA i < N ∧ own (gA i) = 0 := fun i hi => by
  obtain ⟨⟨lo, h1⟩, -⟩ := h i hi
  have h9 := hf _ _ h1.1
  exact ⟨h9.2, h9.1⟩
theorem seO.lt {gS : Nat → Nat} {N : Nat} (h : seO h0 S gS) (hf : frz h0 own N) : ∀ i, i < S.1 → gS i < N ∧ own (gS i) = 0 := fun i hi => by
  obtain ⟨b, fe, h1, -⟩ := h i hi
  have h9 := hf _ _ h1
  exact ⟨h9.2, h9.1⟩
/-- owners behind a list that has grown -/
def ownL (own : Nat → Nat) (e' N t : Nat) : Nat → Nat := fun q => if q = e' ∧ N ≤ e' then t else own q
theorem rlM.lst {l e' cap cap' j : Nat} {g : Nat → Nat} (hM : rlM ad hC a own h0 σ) (hj : j = 17 ∨ j = 18) (hl : own l = j - 9) (M : isMc σ ad l (a j) cap n g) (D : n < cap ∧ e' = a j ∧ cap' = cap ∧ σ'.2 = σ.2 ∨ n = cap ∧ e' = σ.2.1 ∧ cap' = capN ad (a j) n ∧ σ'.2 = (σ.2.1 + 1, σ.2.2 + capN ad (a j) n)) (hfr : ∀ q, q < σ.2.1 → q ≠ l → (q ≠ a j ∨ cap = 0) → σ'.1 q = σ.1 q) : rlM ad hC (upA a j e') (ownL own e' σ.2.1 (j + 1)) h0 σ' := by
  have hz : σ.2.1 ≤ σ'.2.1 := by rcases D with ⟨-, -, -, d⟩ | ⟨-, -, -, d⟩ <;> rw [d] <;> (try dsimp only) <;> omega
  have ho : ∀ q, q < σ.2.1 → ownL own e' σ.2.1 (j + 1) q = own q := fun q hq => by
    unfold ownL
    rw [if_neg (by omega)]
  refine ⟨hM.1.lst hj hz ho fun hne => ?_, fun q e he => ?_, fun q e he => ?_, hM.2.2.2.1, hM.2.2.2.2.up hz⟩
  · rcases D with ⟨d1, d2, -, d⟩ | ⟨d1, d2, -, d⟩
    · have h1 : own (a j) = j + 1 := lst_own M hM.1 hj (by omega)
      have h2 := lst_lt M hM hj
      rw [ho e' (by rw [d2]; exact h2), d, d2]
      exact ⟨h1, h2⟩
    · rw [d, d2]
      refine ⟨?_, Nat.lt_succ_self _⟩
      unfold ownL
      rw [if_pos ⟨d2.symm ▸ rfl, by omega⟩]
  · have h9 := hM.2.1 q e he
    exact ⟨(ho q h9.2).trans h9.1, by omega⟩
  · have h9 := hM.2.1 q e he
    rw [hfr q h9.2 (fun z => by rw [z, hl] at h9; omega) ?_]
    · exact hM.2.2.1 q e he
    · by_cases hc : cap = 0
      · exact Or.inr hc
      · exact Or.inl fun z => by rw [z, lst_own M hM.1 hj hc] at h9; omega
theorem capN_le {e m : Nat} (h : m ≤ 40) : capN ad e m ≤ 60 := by
  unfold capN
  split <;> omega
theorem Rl.keep (H : Rl ad hC a own h0 P R lo n A S tp i5 v9 v10 v11 sd σ T) : ∃ σ' T' e' own' h0' n' A', KX1_keep ad (a 20) σ = some σ' ∧ J_keeps T = some T' ∧ Rl ad hC (upA a 17 e') own' h0' P R lo n' A' S tp i5 v9 v10 v11 sd σ' T' ∧ fC (a 21) (a 22) 11 200 σ σ' ∧ T'.1 0 = T.1 0 ∧ sub h0 h0' := by
  have hQ := H.isQ
  obtain ⟨σ1, s1, c1, z1, k1⟩ := K_copy hQ.co hQ.lt.2.2
  have f1 : fa (fun _ => False) 10 96 σ σ1 := ⟨by rw [z1]; dsimp only; omega, fun q h1 _ => k1 q h1⟩
  have H2 := (H.mem H.1.eo sub.rf).al f1
  have H3 := H2.mem (H2.1.ex (b := σ.2.1) (e := σ.2.1 + 10) (by rw [z1]; exact Nat.le_refl _) (fun q hq => H.1.2.1.ge hq)) (ex_s H.1.2.1 (Nat.le_refl _))
  have hM3 := H3.1
  obtain ⟨cap, gA, q1, q2, q3⟩ := H3.2.2.2.2.2.2.2.1
  have hx3 := H3.2.1
  have hN : σ1.2.1 = σ.2.1 + 10 := by rw [z1]
  have hn : n ≤ 40 := H.2.2.2.2.2.2.2.2.2.2.2.2.1.2.1
  have hb : anyK σ1 "java/lang/Object" σ.2.1 = true := by unfold anyK; rw [c1.1]; rfl
  have hg := q3.lt hM3.2.1
  obtain ⟨σ2, e', cap', s2, M2, D2, fr2⟩ := K_addc (v := σ.2.1) q1 (by omega) ⟨hM3.1.m7.2, lst_lt q1 hM3 (Or.inl rfl), hM3.e0.2, hM3.e1.2⟩ ⟨by omega, hb⟩ (fun i hi => (hg i hi).1)
  have hM4 := hM3.lst (Or.inl rfl) hM3.1.m7.1 q1 D2 fr2
  have hcap : cap' ≤ 64 := by
    have := capN_le (ad := ad) (e := a 17) hn
    rcases D2 with ⟨-, -, d, -⟩ | ⟨-, -, d, -⟩ <;> omega
  have hz2 : σ2.2.1 ≤ σ.2.1 + 11 ∧ σ.2.1 ≤ σ2.2.1 ∧ σ2.2.2 ≤ σ.2.2 + 200 ∧ σ.2.2 ≤ σ2.2.2 := by
    have := capN_le (ad := ad) (e := a 17) hn
    rcases D2 with ⟨-, -, -, d⟩ | ⟨-, -, -, d⟩ <;> rw [d, z1] <;> (try dsimp only) <;> omega
  have hq2 : ∀ q, q < σ1.2.1 → exO own σ.2.1 q ≠ 8 → exO own σ.2.1 q ≠ 18 → σ2.1 q = σ1.1 q := fun q h1 h2 h3 => fr2 q h1 (fun z => h2 (by rw [z]; exact hM3.1.m7.1)) (by
    by_cases hc : cap = 0
    · exact Or.inr hc
    · exact Or.inl fun z => h3 (by rw [z]; exact lst_own q1 hM3.1 (Or.inl rfl) hc))
  have hold : ∀ q, q < σ.2.1 → own q ≠ 8 → own q ≠ 18 → σ2.1 q = σ.1 q := fun q h1 h2 h3 => by
    have e1 : exO own σ.2.1 q = own q := by unfold exO; rw [if_pos h1]
    rw [hq2 q (by omega) (by rw [e1]; exact h2) (by rw [e1]; exact h3), k1 q h1]
  have hnew : isCo (exH h0 σ1 σ.2.1 (σ.2.1 + 10), 0, 0) (a 20) σ.2.1 R 0 := c1.ke fun q h1 h2 => by
    show exH h0 σ1 σ.2.1 (σ.2.1 + 10) q = σ1.1 q
    unfold exH
    rw [if_pos ⟨h1, h2⟩]
  have gx7 : ∀ {τ : vv_S}, τ.1 (a 20) = σ.1 (a 20) → gR τ (a 20) 0 7 = some (a 7) := fun e => by unfold gR gV; rw [e, H.2.1]; rfl
  have hx2 : σ2.1 (a 20) = σ.1 (a 20) := hold _ H.1.1.m20.2 (by rw [H.1.1.m20.1]; omega) (by rw [H.1.1.m20.1]; omega)
  obtain ⟨T1, n', A', j1, hA', hcase, gj⟩ := J_keeps_e H.2.2.2.2.2.2.2.2.2.2.2.1 H.2.2.2.2.2.2.2.2.2.2.2.2.1
  have hd0 : T1.1 0 = T.1 0 := gj.1 0 (by omega)
  have o7 : isO σ1 (a 7) 11 = some () := li_o q1.li
  rcases hcase with ⟨hlt, rfl, hA1, hA2⟩ | ⟨rfl, rfl, hA1, hA2⟩
  · refine ⟨σ2, T1, e', _, _, n + 1, A', ?_, j1, H3.acts hq2 hM4 M2 hcap (fun i hi => ?_) hA' gj, ⟨by omega, ?_, fun q q1 q2 => ?_⟩, hd0, ex_s H.1.2.1 (Nat.le_refl _)⟩
    · unfold KX1_keep KX1_keep_42
      simp only [gx7 rfl, hQ.gc, co_o hQ.co, s1, o7, s2, gx7 hx2, li_o M2.li, li_size M2.li, bdS]
      rw [if_pos (nI_le (by omega) (by omega))]
    · unfold upN
      by_cases e : i = n
      · rw [if_pos e, e, hA2]
        exact ⟨⟨0, hnew⟩, hQ.inv⟩
      · rw [if_neg e, show A' i = A i from funext fun k => hA1 i k (by omega)]
        exact q3 i (by omega)
    · exact hold _ H.1.1.m21.2 (by rw [H.1.1.m21.1]; omega) (by rw [H.1.1.m21.1]; omega)
    · have h9 := H.1.1.m22 ⟨q1, q2⟩
      exact hold _ h9.2 (by rw [h9.1]; omega) (by rw [h9.1]; omega)
  · obtain ⟨σ3, s3, M3, f3⟩ := K_rm0 M2 (by omega)
    have ho4 := hM4.1
    have hne : ∀ q, ownL (exO own σ.2.1) e' σ1.2.1 18 q ≠ 8 → ownL (exO own σ.2.1) e' σ1.2.1 18 q ≠ 18 → σ3.1 q = σ2.1 q := fun q h1 h2 => f3.2 q fun z => by
      rcases z with z | z
      · exact h1 (by rw [z]; exact ho4.m7.1)
      · refine h2 ?_
        rw [z]
        have := lst_own (k := 17) (a := upA a 17 e') M2 ho4 (Or.inl rfl) (by
          obtain ⟨mc, b, gg, w1, w2, w3, w4, w5, -⟩ := M2
          omega)
        exact this
    have hM5 : rlM ad hC (upA a 17 e') (ownL (exO own σ.2.1) e' σ1.2.1 18) (exH h0 σ1 σ.2.1 (σ.2.1 + 10)) σ3 := by
      refine ⟨hM4.1.up (by rw [f3.1]; exact Nat.le_refl _), hM4.2.1.up (by rw [f3.1]; exact Nat.le_refl _), fun q w hw => ?_, hM4.2.2.2.1, hM4.2.2.2.2.up (by rw [f3.1]; exact Nat.le_refl _)⟩
      have h9 := (hM4.2.1 q w hw).1
      rw [hne q (by rw [h9]; omega) (by rw [h9]; omega)]
      exact hM4.2.2.1 q w hw
    have howL : ∀ q, q < σ1.2.1 → ownL (exO own σ.2.1) e' σ1.2.1 18 q = exO own σ.2.1 q := fun q hq => by
      unfold ownL
      rw [if_neg (by omega)]
    have hq3 : ∀ q, q < σ1.2.1 → exO own σ.2.1 q ≠ 8 → exO own σ.2.1 q ≠ 18 → σ3.1 q = σ1.1 q := fun q h1 h2 h3 => (hne q (by rw [howL q h1]; exact h2) (by rw [howL q h1]; exact h3)).trans (hq2 q h1 h2 h3)
    have hold3 : ∀ q, q < σ.2.1 → own q ≠ 8 → own q ≠ 18 → σ3.1 q = σ.1 q := fun q h1 h2 h3 => by
      have e1 : exO own σ.2.1 q = own q := by unfold exO; rw [if_pos h1]
      rw [hq3 q (by omega) (by rw [e1]; exact h2) (by rw [e1]; exact h3), k1 q h1]
    refine ⟨σ3, T1, e', _, _, 40, A', ?_, j1, H3.acts hq3 hM5 M3 hcap (fun i hi => ?_) hA' gj, ⟨by rw [f3.1]; omega, ?_, fun q q1 q2 => ?_⟩, hd0, ex_s H.1.2.1 (Nat.le_refl _)⟩
    · unfold KX1_keep KX1_keep_42
      simp only [gx7 rfl, hQ.gc, co_o hQ.co, s1, o7, s2, gx7 hx2, li_o M2.li, li_size M2.li, bdS]
      rw [if_neg (nI_ge (by omega) (by omega))]
      simp only [s3, bdS]
    · unfold upN
      by_cases e : i = 39
      · rw [e, if_pos rfl, hA2]
        exact ⟨⟨0, hnew⟩, hQ.inv⟩
      · rw [if_neg (by omega), show A' i = A (i + 1) from funext fun k => hA1 i k (by omega)]
        exact q3 (i + 1) (by omega)
    · exact hold3 _ H.1.1.m21.2 (by rw [H.1.1.m21.1]; omega) (by rw [H.1.1.m21.1]; omega)
    · have h9 := H.1.1.m22 ⟨q1, q2⟩
      exact hold3 _ h9.2 (by rw [h9.1]; omega) (by rw [h9.1]; omega)
theorem Rl.refuse (H : Rl ad hC a own h0 P R lo n A S tp i5 v9 v10 v11 sd σ T) {w : Nat} (hw : w < 3) : ∃ σ' T', KX1_refuse (a 20) (nI w) σ = some (-1, σ') ∧ J_refuses (nI w) T = some (-1, T') ∧ Rl ad hC a own h0 P R lo n A S tp i5 v9 v10 v11 sd σ' T' ∧ fC (a 21) (a 22) 0 0 σ σ' ∧ T'.1 = T.1 := by
  obtain ⟨hM, hX, hP, hc, hU, hT, ⟨rf, f1, f2⟩, hA, hS, hI, hJ⟩ := H
  have g6 : gR σ (a 20) 0 6 = some (a 6) := by unfold gR gV; rw [hX]; rfl
  have r1 : aI σ .int (a 6) (nI w) = some (rf w) := aI_at f1 hw (by omega)
  obtain ⟨σ1, hσ1⟩ : ∃ σ1 : vv_S, σ1 = (vv_up σ.1 (a 6) (true, .inl (.int, 3, .inl (upd rf w (rf w + nI 1)))), σ.2) := ⟨_, rfl⟩
  have s1 : sI σ (a 6) (nI w) (rf w + nI 1) = some σ1 := by
    rw [hσ1]
    unfold sI
    rw [f1]
    show (if FieldType.int = FieldType.int ∧ ¬ ((nI w) < 0 ∨ 3 ≤ (nI w).toNatClampNeg) then _ else none) = _
    rw [if_pos ⟨rfl, nI_in hw (by omega)⟩, nI_clamp (by omega)]
  have j1 : rdI 3 (T.2.2 9) (nI w) = some (rf w) := by rw [nI_rd hw (by omega), f2 w hw]
  have j2 : stA T 9 3 (nI w) (rf w + nI 1) = some (tw_A T 9 (upd (T.2.2 9) w (rf w + nI 1))) := nI_st hw (by omega)
  have e1 : ∀ q, q ≠ a 6 → σ1.1 q = σ.1 q := fun q hq => by rw [hσ1]; exact up_n hq
  have e2 : σ1.2 = σ.2 := by rw [hσ1]
  have f' : fa (fun q => (fun t => t = 7) (own q)) 0 0 σ σ1 := ⟨by rw [e2]; omega, fun q h1 h2 => e1 q fun z => h2 (by show own q = 7; rw [z]; exact hM.1.m6.1)⟩
  have kp : ∀ t, t ≠ 7 → Kp own t σ σ1 := fun t ht => fa.kp (D := fun t => t = 7) (own := own) f' ht
  have hM' := hM.k (D := fun t => t = 7) f' (by simp)
  refine ⟨σ1, tw_A T 9 (upd (T.2.2 9) w (rf w + nI 1)), ?_, ?_, ⟨hM', (kp 21 (by omega) _ hM.1.m20.2 hM.1.m20.1).trans hX, hP, hc.k hM.1 (kp 1 (by omega)) (kp 3 (by omega)), hU.k hM.1 (kp 13 (by omega)) (kp 14 (by omega)), hT.k hM.1 (kp 4 (by omega)) (A_n (by omega)), ⟨upd rf w (rf w + nI 1), by rw [hσ1]; exact up_s, fun k hk => ?_⟩, hA.k hM hM' (kp 8 (by omega)) (kp 18 (by omega)), hS.k hM hM' (kp 9 (by omega)) (kp 19 (by omega)), hI.k (fun _ _ _ => rfl) (fun r h1 h2 => A_n (by omega)) rfl rfl, ?_⟩, fC.of (D := fun t => t = 7) (own := own) f' hM.1 (by simp) (by simp), rfl⟩
  · unfold KX1_refuse
    simp only [g6, r1, s1, bdS]
  · unfold J_refuses
    simp only [j1, j2, bdS]
  · rw [A_s]
    by_cases e : k = w
    · rw [e, upd_s, upd_s]
    · rw [upd_n e, upd_n e, f2 k hk]
  · obtain ⟨a1, a2, a3, a4, a5, a6, a7, a8⟩ := hJ
    refine ⟨?_, a2.of (A_n (by omega)), a3.k rfl (A_n (by omega)) rfl rfl, a4.k rfl (A_n (by omega)), a5, a6, a7, a8⟩
    exact a1.of (fun _ _ _ => rfl) (fun r h1 h2 => A_n (by omega))
/-- the same, the places told -/
theorem Rl.keep' (H : Rl ad hC a own h0 P R lo n A S tp i5 v9 v10 v11 sd σ T) : ∃ σ' T' a' own' h0' n' A', (∀ k, k ≠ 17 → a' k = a k) ∧ KX1_keep ad (a 20) σ = some σ' ∧ J_keeps T = some T' ∧ Rl ad hC a' own' h0' P R lo n' A' S tp i5 v9 v10 v11 sd σ' T' ∧ fC (a 21) (a 22) 11 200 σ σ' ∧ T'.1 0 = T.1 0 ∧ sub h0 h0' := by
  obtain ⟨σ', T', e', own', h0', n', A', k1, j1, H', f1, z1, u1⟩ := H.keep
  exact ⟨σ', T', upA a 17 e', own', h0', n', A', fun k hk => by unfold upA; rw [if_neg hk], k1, j1, H', f1, z1, u1⟩
theorem Rl.rr {a' : Nat → Nat} (H : Rl ad hC a' own h0 P R lo n A S tp i5 v9 v10 v11 sd σ T) (ha : ∀ k, k ≠ 17 → a' k = a k) : RL ad hC (a 20) (a 21) (a 22) σ T := ⟨a', own, h0, P, R, lo, n, A, S, tp, i5, v9, v10, v11, sd, ha 20 (by omega), ha 21 (by omega), ha 22 (by omega), H⟩
theorem Rl.rr' {a' : Nat → Nat} (H : Rl ad hC a' own h0 P R lo n A S tp i5 v9 v10 v11 sd σ T) {x0 ot o : Nat} (h1 : a' 20 = x0) (h2 : a' 21 = ot) (h3 : a' 22 = o) : RL ad hC x0 ot o σ T := ⟨a', own, h0, P, R, lo, n, A, S, tp, i5, v9, v10, v11, sd, h1, h2, h3, H⟩
theorem Rl.z (H : Rl ad hC a own h0 P R lo n A S tp i5 v9 v10 v11 sd σ T) : ∃ T1, tw_F T 0 (nI 0) = T1 ∧ Rl ad hC a own h0 P R lo n A S tp i5 v9 v10 v11 sd σ T1 ∧ T1.1 0 = 0 := ⟨_, rfl, H.q fa.rf H.2.2.2.1.1 jq.t0, F_00⟩
theorem Rl.hd (H : Rl ad hC a own h0 P R lo n A S tp i5 v9 v10 v11 sd σ T) : ∀ q, coA (a 2) q → h0 q = none := fun q hq => H.1.2.1.no (by rw [(H.1.1.m2 hq).1]; omega)
theorem Rl.fo {c m : Nat} (H : Rl ad hC a own h0 P R lo n A S tp i5 v9 v10 v11 sd σ T) (f : fa (fun q => coV (a 2) (a 0) q) c m σ σ') : fa (fun q => own q = 1 ∨ own q = 3) c m σ σ' := f.mo (fun q hq => by
  rcases hq with hq | hq
  · exact Or.inr (H.1.1.m2 hq).1
  · rw [hq]; exact Or.inl H.1.1.m0.1) (Nat.le_refl _) (Nat.le_refl _)
theorem Rl.fcA (H : Rl ad hC a own h0 P R lo n A S tp i5 v9 v10 v11 sd σ T) {c m : Nat} (f : fa (fun q => own q = 1 ∨ own q = 3) c m σ σ') : fC (a 21) (a 22) c m σ σ' := fC.of (D := fun t => t = 1 ∨ t = 3) (own := own) f H.1.1 (by simp) (by simp)
end RW2
