/-! the plain law: an image, restored -/
set_option maxRecDepth 100000
section IM
variable {ad a own : Nat → Nat} {hC h0 : Nat → Option vv_E} {P : pvT} {R : Nat → Int32} {lo : Int32} {n : Nat} {A : Nat → Nat → Int32} {S : seT} {tp : Nat} {i5 : Int32} {v9 v10 v11 : Value} {sd : Int32} {σ σ' : vv_S} {T T' : tw_T} {x0 ot o : Nat}
theorem rlJ.z' {R' : Nat → Int32} (h : rlJ P R n A S tp i5 T) (f1 : ∀ k, (1 ≤ k ∧ k ≤ 4) ∨ k = 13 ∨ k = 15 ∨ k = 44 ∨ k = 52 → T'.1 k = T.1 k) (f2 : ∀ r, r ≤ 9 ∨ r = 21 ∨ r = 28 → T'.2.2 r = T.2.2 r) (r : isRw T' 0 R') : rlJ P R' n A S tp i5 T' := by
  obtain ⟨a1, a2, a3, a4, a5, a6, a7, a8⟩ := h
  exact ⟨a1.of (fun k h1 h2 => f1 k (by omega)) (fun k h1 h2 => f2 k (by omega)), r, a3.k (f1 44 (by omega)) (f2 21 (by omega)) (f1 1 (by omega)) (f1 3 (by omega)), a4.k (f1 52 (by omega)) (f2 28 (by omega)), a5, (f1 13 (by omega)).trans a6, a7, (f1 15 (by omega)).trans a8⟩
/-- the component's own cell, its tape, what was refused -/
theorem Rl.setX {tp' : Nat} {i5' : Int32} {w9 w10 w11 : Value} {sd' : Int32} (H : Rl ad hC a own h0 P R lo n A S tp i5 v9 v10 v11 sd σ T) (k1 : ∀ q, q ≠ a 20 → q ≠ a 3 → q ≠ a 6 → σ'.1 q = σ.1 q) (k2 : σ'.2 = σ.2) (hx : σ'.1 (a 20) = some (true, .inr (0, xF a (nI tp') i5' w9 w10 w11 sd'))) (hT : rlT a σ' T') (hF : rlF a σ' T') (hI : rlI ad a h0 P w9 w10 w11 T') (hJ : rlJ P R n A S tp' i5' T') : Rl ad hC a own h0 P R lo n A S tp' i5' w9 w10 w11 sd' σ' T' := by
  obtain ⟨hM, hX, hP, hc, hU, -, -, hA, hS, -, -⟩ := H
  have f : fa (fun q => (fun t => t = 21 ∨ t = 4 ∨ t = 7) (own q)) 0 0 σ σ' := ⟨by rw [k2]; omega, fun q h1 h2 => k1 q (fun z => h2 (Or.inl (by rw [z]; exact hM.1.m20.1))) (fun z => h2 (Or.inr (Or.inl (by rw [z]; exact hM.1.m3.1)))) (fun z => h2 (Or.inr (Or.inr (by rw [z]; exact hM.1.m6.1))))⟩
  have kp : ∀ t, ¬ (t = 21 ∨ t = 4 ∨ t = 7) → Kp own t σ σ' := fun t ht => fa.kp (D := fun t => t = 21 ∨ t = 4 ∨ t = 7) (own := own) f ht
  have hM' := hM.k (D := fun t => t = 21 ∨ t = 4 ∨ t = 7) f (by simp)
  exact ⟨hM', hx, hP, hc.k hM.1 (kp 1 (by omega)) (kp 3 (by omega)), hU.k hM.1 (kp 13 (by omega)) (kp 14 (by omega)), hT, hF, hA.k hM hM' (kp 8 (by omega)) (kp 18 (by omega)), hS.k hM hM' (kp 9 (by omega)) (kp 19 (by omega)), hI, hJ⟩
theorem mc_ne {l e cap x : Nat} {g : Nat → Nat} {fs : List Value} (M : isMc σ ad l e cap n g) (hx : σ.1 x = some (true, .inr (0, fs))) : l ≠ x ∧ e ≠ x := by
  obtain ⟨mc, b, gg, k1, k2, -⟩ := M
  refine ⟨fun z => ?_, fun z => ?_⟩
  · rw [z, hx] at k1
    have k1 := congrArg Prod.snd (Option.some.inj k1)
    injection k1 with k1
    have k1 := congrArg Prod.fst k1
    exact absurd (show (0 : Nat) = 11 from k1) (by omega)
  · rw [z, hx] at k2
    have k2 := congrArg Prod.snd (Option.some.inj k2)
    cases k2
/-- a list's copy, the list new -/
theorem K_ncopy {l e cap : Nat} {g : Nat → Nat} (M : isMc σ ad l e cap n g) (hn : n ≤ 1000) (hlt : l < σ.2.1 ∧ e < σ.2.1 ∧ ad 0 < σ.2.1 ∧ ad 1 < σ.2.1) (h1e : ∃ b gg, σ.1 (ad 1) = some (obE b 0 gg)) (hg : ∀ i, i < n → g i < σ.2.1) : ∃ σ' e', KJ2_init_2 ad σ.2.1 l (nwO σ 11 [.int 0, .null, .int 0] 3) = some σ' ∧ isMc σ' ad σ.2.1 e' n n g ∧ (n = 0 ∧ e' = ad 1 ∨ 0 < n ∧ e' = σ.2.1 + 1) ∧ σ'.2 = (σ.2.1 + 2, σ.2.2 + 3 + n) ∧ ∀ q, q < σ.2.1 → σ'.1 q = σ.1 q := by
  have n1 : ∀ q, q < σ.2.1 → (nwO σ 11 [.int 0, .null, .int 0] 3).1 q = σ.1 q := fun q hq => up_n (by omega)
  have z1 : (nwO σ 11 [.int 0, .null, .int 0] 3).2 = (σ.2.1 + 1, σ.2.2 + 3) := rfl
  have z2 : (nwO σ 11 [.int 0, .null, .int 0] 3).2.1 = σ.2.1 + 1 := rfl
  obtain ⟨b, gg, h1⟩ := h1e
  have M1 : isMc (nwO σ 11 [.int 0, .null, .int 0] 3) ad l e cap n g := M.ke (n1 _ hlt.1) (n1 _ hlt.2.1) fun i hi h => by rw [any_k (n1 _ (hg i hi))]; exact h
  obtain ⟨σ', e', s1, M2, D, z, k⟩ := K_lcopy M1 hn (x := σ.2.1) up_s (by rw [z2]; omega) ⟨b, gg, (n1 _ hlt.2.2.2).trans h1⟩ (fun i hi => by have := hg i hi; rw [z2]; omega) (fun i hi => by have := hg i hi; omega) (by omega)
  exact ⟨σ', e', s1, M2, D, z, fun q hq => (k q (by rw [z2]; omega) (by omega)).trans (n1 q hq)⟩
theorem RL.image (h : RL ad hC x0 ot o σ T) : ∃ σ' T', KX1_image ad x0 σ = some σ' ∧ J_image T = some T' ∧ RL ad hC x0 ot o σ' T' ∧ fX ot o σ σ' := by
  obtain ⟨a, own, h0, P, R, lo, n, A, S, tp, i5, v9, v10, v11, sd, e1, e2, e3, H⟩ := h
  subst e1 e2 e3
  have hQ := H.isQ
  obtain ⟨hM, hX, hP, hc, hU, hT, hF, ⟨cap, gA, q1, q2, q3⟩, ⟨capS, gS, p1, p2, p3⟩, hI, hJ⟩ := id H
  have hn := hJ.2.2.1.2.1
  have hS8 := hJ.2.2.2.2.1
  have hx20 := hM.1.m20
  obtain ⟨σ1, s1, c1, z1, k1⟩ := K_copy hQ.co hQ.lt.2.2
  have hX1 := (k1 _ hx20.2).trans hX
  have hN1 : σ1.2.1 = σ.2.1 + 10 := by rw [z1]
  obtain ⟨σ2, hσ2⟩ : ∃ σ2 : vv_S, σ2 = (vv_up σ1.1 (a 20) (true, .inr (0, xF a (nI tp) i5 (.ref σ.2.1) v10 v11 sd)), σ1.2) := ⟨_, rfl⟩
  have s2 : pF σ1 (a 20) 0 9 (.ref σ.2.1) = some σ2 := by rw [hσ2]; exact x_p hX1 (show _ < 15 by decide)
  have hX2 : σ2.1 (a 20) = some (true, .inr (0, xF a (nI tp) i5 (.ref σ.2.1) v10 v11 sd)) := by rw [hσ2]; exact up_s
  have k2 : ∀ q, q ≠ a 20 → σ2.1 q = σ1.1 q := fun q hq => by rw [hσ2]; exact up_n hq
  have z2 : σ2.2 = σ1.2 := by rw [hσ2]
  have hN2 : σ2.2.1 = σ.2.1 + 10 := by rw [z2]; exact hN1
  have fz20 : ∀ q, own q = 0 → q ≠ a 20 := fun q hq z => by rw [z, hx20.1] at hq; omega
  have o2 : ∀ q, q < σ.2.1 → q ≠ a 20 → σ2.1 q = σ.1 q := fun q h1 h2 => (k2 q h2).trans (k1 q h1)
  have e1c := hM.e1
  have e0c := hM.e0
  have hne1 : ad 1 ≠ a 20 := fun z => by
    obtain ⟨b, gg, h9⟩ := hM.2.2.2.2.2.1
    exact fz20 _ (hM.2.1 _ _ (hM.2.2.2.1 _ _ h9)).1 z
  have hgA := q3.lt hM.2.1
  have hgS := p3.lt hM.2.1
  have n7 := mc_ne q1 hX
  have n8 := mc_ne p1 hX
  have l7 := lst_lt q1 hM (Or.inl rfl)
  have l8 := lst_lt p1 hM (Or.inr rfl)
  have q1' : isMc σ2 ad (a 7) (a 17) cap n gA := q1.ke (o2 _ hM.1.m7.2 n7.1) (o2 _ l7 n7.2) fun i hi h => by rw [any_k (o2 _ (hgA i hi).1 (fz20 _ (hgA i hi).2))]; exact h
  obtain ⟨b1, gg1, h1e⟩ := e1c.1
  obtain ⟨σ4, x4, s4, M4, D4, z4, k4⟩ := K_ncopy q1' (by omega) (by rw [hN2]; have := hM.1.m7.2; have := e0c.2; have := e1c.2; omega) ⟨b1, gg1, (o2 _ e1c.2 hne1).trans h1e⟩ (fun i hi => by have := (hgA i hi).1; omega)
  have hX4 := (k4 (a 20) (by omega)).trans hX2
  have hN4 : σ4.2.1 = σ.2.1 + 12 := by rw [z4, hN2]
  obtain ⟨σ5, hσ5⟩ : ∃ σ5 : vv_S, σ5 = (vv_up σ4.1 (a 20) (true, .inr (0, xF a (nI tp) i5 (.ref σ.2.1) (.ref σ2.2.1) v11 sd)), σ4.2) := ⟨_, rfl⟩
  have s5 : pF σ4 (a 20) 0 10 (.ref σ2.2.1) = some σ5 := by rw [hσ5]; exact x_p hX4 (show _ < 15 by decide)
  have hX5 : σ5.1 (a 20) = some (true, .inr (0, xF a (nI tp) i5 (.ref σ.2.1) (.ref σ2.2.1) v11 sd)) := by rw [hσ5]; exact up_s
  have k5 : ∀ q, q ≠ a 20 → σ5.1 q = σ4.1 q := fun q hq => by rw [hσ5]; exact up_n hq
  have z5 : σ5.2 = σ4.2 := by rw [hσ5]
  have hN5 : σ5.2.1 = σ.2.1 + 12 := by rw [z5]; exact hN4
  have o5 : ∀ q, q < σ.2.1 → q ≠ a 20 → σ5.1 q = σ.1 q := fun q h1 h2 => (k5 q h2).trans ((k4 q (by omega)).trans (o2 q h1 h2))
  have p1' : isMc σ5 ad (a 8) (a 18) capS S.1 gS := p1.ke (o5 _ hM.1.m8.2 n8.1) (o5 _ l8 n8.2) fun i hi h => by rw [any_k (o5 _ (hgS i hi).1 (fz20 _ (hgS i hi).2))]; exact h
  obtain ⟨σ7, x7, s7, M7, D7, z7, k7⟩ := K_ncopy p1' (by have := hS8.1; omega) (by rw [hN5]; have := hM.1.m8.2; have := e0c.2; have := e1c.2; omega) ⟨b1, gg1, (o5 _ e1c.2 hne1).trans h1e⟩ (fun i hi => by have := (hgS i hi).1; omega)
  have hX7 := (k7 (a 20) (by omega)).trans hX5
  have hN7 : σ7.2.1 = σ.2.1 + 14 := by rw [z7, hN5]
  obtain ⟨σ8, hσ8⟩ : ∃ σ8 : vv_S, σ8 = (vv_up σ7.1 (a 20) (true, .inr (0, xF a (nI tp) i5 (.ref σ.2.1) (.ref σ2.2.1) (.ref σ5.2.1) sd)), σ7.2) := ⟨_, rfl⟩
  have s8 : pF σ7 (a 20) 0 11 (.ref σ5.2.1) = some σ8 := by rw [hσ8]; exact x_p hX7 (show _ < 15 by decide)
  have hX8 : σ8.1 (a 20) = some (true, .inr (0, xF a (nI tp) i5 (.ref σ.2.1) (.ref σ2.2.1) (.ref σ5.2.1) sd)) := by rw [hσ8]; exact up_s
  have k8 : ∀ q, q ≠ a 20 → σ8.1 q = σ7.1 q := fun q hq => by rw [hσ8]; exact up_n hq
  have z8 : σ8.2 = σ7.2 := by rw [hσ8]
  obtain ⟨σs, hσs⟩ : ∃ σs : vv_S, σs = (vv_up σ8.1 (a 20) (true, .inr (0, xF a (nI tp) i5 v9 v10 v11 sd)), σ8.2) := ⟨_, rfl⟩
  have ks : ∀ q, q ≠ a 20 → σs.1 q = σ8.1 q := fun q hq => by rw [hσs]; exact up_n hq
  have zs : σs.2 = σ8.2 := by rw [hσs]
  have hNs : σs.2.1 = σ.2.1 + 14 := by rw [zs, z8]; exact hN7
  have hss : σs.2.2 = σ.2.2 + 96 + 3 + n + 3 + S.1 := by rw [zs, z8, z7, z5, z4, z2, z1]
  have fs : fa (fun _ => False) 14 200 σ σs := ⟨by have := hS8.1; omega, fun q h1 _ => by
    by_cases hq : q = a 20
    · rw [hq, hX, hσs]; exact up_s
    · rw [ks q hq, k8 q hq, k7 q (by omega), o5 q h1 hq]⟩
  have H1 := (H.mem hM.eo sub.rf).al fs
  have H2 := H1.mem (H1.1.ex (b := σ.2.1) (e := σs.2.1) (Nat.le_refl _) (fun q hq => hM.2.1.ge hq)) (ex_s hM.2.1 (Nat.le_refl _))
  have hs' : sub h0 (exH h0 σs σ.2.1 σs.2.1) := ex_s hM.2.1 (Nat.le_refl _)
  have hh : ∀ q, σ.2.1 ≤ q → q < σs.2.1 → exH h0 σs σ.2.1 σs.2.1 q = σ7.1 q := fun q h1 h2 => by
    have hq : q ≠ a 20 := by have := hx20.2; omega
    unfold exH
    rw [if_pos ⟨h1, h2⟩, ks q hq, k8 q hq]
  have hc9 : isCo (exH h0 σs σ.2.1 σs.2.1, 0, 0) (a 20) σ.2.1 R 0 := c1.ke fun q h1 h2 => by
    have hq : q ≠ a 20 := by have := hx20.2; omega
    show exH h0 σs σ.2.1 σs.2.1 q = σ1.1 q
    rw [hh q h1 (by omega), k7 q (by omega), k5 q hq, k4 q (by omega), k2 q hq]
  have h1m : exH h0 σs σ.2.1 σs.2.1 (ad 1) = σ.1 (ad 1) := by
    obtain ⟨b, gg, h9⟩ := hM.2.2.2.2.2.1
    rw [hs' _ _ (hM.2.2.2.1 _ _ h9), hM.2.2.1 _ _ (hM.2.2.2.1 _ _ h9)]
  have q3' := q3.up hs'
  have p3' := p3.up hs'
  have m10 : isMc (exH h0 σs σ.2.1 σs.2.1, 0, 0) ad σ2.2.1 x4 n n gA := M4.ke (by
      show exH h0 σs σ.2.1 σs.2.1 σ2.2.1 = _
      rw [hh _ (by omega) (by omega), k7 _ (by omega), k5 _ (by have := hx20.2; omega)]) (by
      show exH h0 σs σ.2.1 σs.2.1 x4 = _
      rcases D4 with ⟨-, d⟩ | ⟨-, d⟩
      · rw [d, h1m, k4 _ (by have := e1c.2; omega), o2 _ e1c.2 hne1]
      · rw [d, hh _ (by omega) (by omega), k7 _ (by omega), k5 _ (by have := hx20.2; omega)]) fun i hi _ => q3'.any (σ := (exH h0 σs σ.2.1 σs.2.1, 0, 0)) sub.rf i hi
  have m11 : isMc (exH h0 σs σ.2.1 σs.2.1, 0, 0) ad σ5.2.1 x7 S.1 S.1 gS := M7.ke (by
      show exH h0 σs σ.2.1 σs.2.1 σ5.2.1 = _
      rw [hh _ (by omega) (by omega)]) (by
      show exH h0 σs σ.2.1 σs.2.1 x7 = _
      rcases D7 with ⟨-, d⟩ | ⟨-, d⟩
      · rw [d, h1m, k7 _ (by have := e1c.2; omega), o5 _ e1c.2 hne1]
      · rw [d, hh _ (by omega) (by omega)]) fun i hi _ => p3'.any (σ := (exH h0 σs σ.2.1 σs.2.1, 0, 0)) sub.rf i hi
  obtain ⟨T', j1, im, zj, fj, gj⟩ := J_image_e hJ.2.1 hJ.2.2.1 hJ.2.2.2.1 hS8.1
  have H3 := H2.setX (σ' := σ8) (T' := T') (tp' := tp) (i5' := i5) (sd' := sd) (fun q h1 _ _ => (ks q h1).symm) zs.symm hX8 (by
      obtain ⟨tf, t1, t2⟩ := H2.2.2.2.2.2.1
      refine ⟨tf, (ks _ ?_).symm.trans t1, fun q hq => by rw [gj 8 (by omega) (by omega) (by omega)]; exact t2 q hq⟩
      intro z; have := hM.1.m3.1; rw [z, hx20.1] at this; omega) (by
      obtain ⟨tf, t1, t2⟩ := H2.2.2.2.2.2.2.1
      refine ⟨tf, (ks _ ?_).symm.trans t1, fun q hq => by rw [gj 9 (by omega) (by omega) (by omega)]; exact t2 q hq⟩
      intro z; have := hM.1.m6.1; rw [z, hx20.1] at this; omega) (Or.inr ⟨σ.2.1, σ2.2.1, x4, σ5.2.1, x7, R, 0, n, A, S, gA, gS, rfl, rfl, rfl, hc9, hQ.inv, m10, q3', m11, p3', hS8, im⟩) (hJ.z' (fun k hk => fj k (by omega) (by omega) (by omega) (by omega)) (fun r hr => gj r (by omega) (by omega) (by omega)) (hJ.2.1.of (gj 20 (by omega) (by omega) (by omega)) (fj 1 (by omega) (by omega) (by omega) (by omega)) (fj 3 (by omega) (by omega) (by omega) (by omega))))
  refine ⟨σ8, T', ?_, j1, H3.rr' rfl rfl rfl, ((fC.nw hM.1 fs).tr (fC.x (σ' := σ8) H2.1.1 (fun q hq => (ks q hq).symm) zs.symm)).mo (by omega) (by omega)⟩
  have g7 : gR (nwO σ2 11 [.int 0, .null, .int 0] 3) (a 20) 0 7 = some (a 7) := by
    unfold gR gV
    rw [show (nwO σ2 11 [.int 0, .null, .int 0] 3).1 (a 20) = _ from (up_n (by omega)).trans hX2]
    rfl
  have g8 : gR (nwO σ5 11 [.int 0, .null, .int 0] 3) (a 20) 0 8 = some (a 8) := by
    unfold gR gV
    rw [show (nwO σ5 11 [.int 0, .null, .int 0] 3).1 (a 20) = _ from (up_n (by omega)).trans hX5]
    rfl
  unfold KX1_image
  simp only [hQ.gc, co_o hQ.co, s1, s2, g7, s4, s5, g8, s7, s8, bdS]
end IM
