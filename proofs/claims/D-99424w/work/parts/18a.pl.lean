/-! the plain law: undo, forget -/
set_option maxRecDepth 100000
section UN
variable {ad a own : Nat → Nat} {hC h0 : Nat → Option vv_E} {P : pvT} {R : Nat → Int32} {lo : Int32} {n : Nat} {A : Nat → Nat → Int32} {S : seT} {tp : Nat} {i5 : Int32} {v9 v10 v11 : Value} {sd : Int32} {σ σ' : vv_S} {T T' : tw_T} {x0 ot o : Nat}
theorem fC.x (ho : okO ad a own σ.2.1) (k1 : ∀ q, q ≠ a 20 → σ'.1 q = σ.1 q) (k2 : σ'.2 = σ.2) : fC (a 21) (a 22) 0 0 σ σ' := ⟨by rw [k2]; omega, k1 _ fun z => by have h1 := ho.m21.1; have h2 := ho.m20.1; rw [z, h2] at h1; omega, fun q q1 q2 => k1 _ fun z => by have h1 := (ho.m22 ⟨q1, q2⟩).1; have h2 := ho.m20.1; rw [z, h2] at h1; omega⟩
theorem fC.nw {c m : Nat} (ho : okO ad a own σ.2.1) (f : fa (fun _ => False) c m σ σ') : fC (a 21) (a 22) c m σ σ' := fC.of (D := fun _ => False) f ho id id
theorem coEnd {h : Nat → Option vv_E} {z : Nat × Nat} {b N : Nat} (C : isCo (h, z) (a 20) b R lo) (hf : frz h own N) : b + 10 ≤ N := by
  obtain ⟨f, h1, -⟩ := C.2 8 (by omega)
  have := (hf _ _ h1).2
  omega
theorem exO_ge {b q : Nat} (h : b ≤ q) : exO own b q = 0 := by unfold exO; rw [if_neg (by omega)]
theorem RL.undo (h : RL ad hC x0 ot o σ T) : op0 ad hC x0 ot o σ (KX1_undo x0 σ) (J_undo T) := by
  obtain ⟨a, own, h0, P, R, lo, n, A, S, tp, i5, v9, v10, v11, sd, e1, e2, e3, H⟩ := h
  subst e1 e2 e3
  obtain ⟨cap, gA, q1, q2, q3⟩ := H.2.2.2.2.2.2.2.1
  have hAc := H.2.2.2.2.2.2.2.2.2.2.2.2.1
  have hM := H.1
  have g7 : ∀ {τ : vv_S}, τ.1 (a 20) = σ.1 (a 20) → gR τ (a 20) 0 7 = some (a 7) := fun e => by unfold gR gV; rw [e, H.2.1]; rfl
  have gl : gI σ (a 7) 11 2 = some (nI n) := by
    obtain ⟨mc, b, gg, k1, -⟩ := q1
    unfold gI gV; rw [k1]; rfl
  unfold KX1_undo KJ2_isEmpty KJ2_isEmpty_12
  simp only [g7 rfl, li_o q1.li, gl, bdS]
  cases n with
  | zero =>
    rw [if_pos nI_0]
    simp only [zr1, bdS, if_neg s1_ne]
    exact ⟨-1, σ, _, rfl, J_undo_0 hAc, (H.q fa.rf H.2.2.2.1.1 jq.t0).rr (fun _ _ => rfl), fC.rf.mo (by omega) (by omega)⟩
  | succ m =>
    have hm : m + 1 ≤ 40 := hAc.2.1
    rw [if_neg (nI_ne0 (by omega) (by omega))]
    obtain ⟨T', j1, hA', r', z', f', g'⟩ := J_undo_e hAc
    obtain ⟨σ1, s1, M1, fr1⟩ := K_rml q1
    have hcap : cap ≠ 0 := by
      obtain ⟨mc, b, gg, w1, w2, w3, w4, w5, -⟩ := q1
      omega
    have o17 := lst_own q1 hM.1 (Or.inl rfl) hcap
    have hf : ∀ q, q < σ.2.1 → own q ≠ 8 → own q ≠ 18 → σ1.1 q = σ.1 q := fun q _ h1 h2 => fr1.2 q fun z => z.elim (fun z => h1 (by rw [z]; exact hM.1.m7.1)) (fun z => h2 (by rw [z]; exact o17))
    have hM1 : rlM ad hC a own h0 σ1 := ⟨hM.1.up (by rw [fr1.1]; exact Nat.le_refl _), hM.2.1.up (by rw [fr1.1]; exact Nat.le_refl _), fun q e he => by
      have h9 := hM.2.1 q e he
      rw [hf q h9.2 (by omega) (by omega)]
      exact hM.2.2.1 q e he, hM.2.2.2.1, hM.2.2.2.2.up (by rw [fr1.1]; exact Nat.le_refl _)⟩
    have H1 := H.acts (own' := own) (e' := a 17) (T' := tw_F T 44 (nI m)) hf (by rw [upA_i]; exact hM1) M1 q2 (fun i hi => q3 i (by omega)) ⟨F_s, by omega, fun i k hi hk => hAc.2.2 i k (by omega) hk⟩ ⟨fun k hk => F_n hk, fun _ _ => rfl⟩
    rw [upA_i] at H1
    obtain ⟨⟨lo', hco⟩, hinv⟩ := q3 m (by omega)
    have c1 : isCo σ1 (a 20) (gA m) (A m) lo' := hco.up hM1.2.2.1
    obtain ⟨σ2, s2, c2, z2, k2⟩ := K_copy c1 (by rw [fr1.1]; exact coEnd hco hM.2.1)
    have f2 : fa (fun _ => False) 10 96 σ1 σ2 := ⟨by rw [z2]; dsimp only; omega, fun q h1 _ => k2 q h1⟩
    have H2 := (H1.mem H1.1.eo sub.rf).al f2
    obtain ⟨σ3, own', s3, H3, k3, z3⟩ := H2.set2 (T' := T') c2 (fun q hq => ⟨exO_ge hq.1, H1.1.2.1.ge hq.1, by rw [z2]; exact hq.2⟩) hinv r' ⟨fun k hk => by
      by_cases e : k = 44
      · rw [e, F_s]; exact hA'.1
      · rw [F_n e]; exact f' k (by omega) e, fun r hr => g' r (by omega)⟩
    have hx3 : σ3.1 (a 20) = some (true, .inr (0, xF (upA a 2 σ1.2.1) (nI tp) i5 v9 v10 v11 sd)) := H3.2.1
    have g73 : gR σ3 (a 20) 0 7 = some (a 7) := by unfold gR gV; rw [hx3]; rfl
    obtain ⟨cap3, gA3, M3, -⟩ := H3.2.2.2.2.2.2.2.1
    have M3 : isMc σ3 ad (a 7) (a 17) cap3 m gA3 := M3
    refine ⟨nI m, σ3, T', ?_, j1, H3.rr' rfl rfl rfl, ((fC.of (D := fun t => t = 8 ∨ t = 18) (own := own) (a := a) (σ := σ) (σ' := σ1) (c := 0) (m := 0) ⟨by rw [fr1.1]; omega, fun q h1 h2 => hf q h1 (fun z => h2 (Or.inl z)) (fun z => h2 (Or.inr z))⟩ hM.1 (by simp) (by simp)).tr ((fC.nw hM1.1 f2).tr (fC.x H2.1.1 k3 z3))).mo (by omega) (by omega)⟩
    simp only [zr0, g7 rfl, li_o q1.li, li_size q1.li, nI_1m, s1, co_o c1, s2, s3, g73, li_o M3.li, li_size M3.li, bdS, if_pos nI_0]
/-- a new list -/
theorem K_nlist (hM : rlM ad hC a own h0 σ) {g : Nat → Nat} : ∃ σ', KJ2_init ad σ.2.1 (nwO σ 11 [.int 0, .null, .int 0] 3) = some σ' ∧ isMc σ' ad σ.2.1 (ad 0) 0 0 g ∧ σ'.2 = (σ.2.1 + 1, σ.2.2 + 3) ∧ ∀ q, q < σ.2.1 → σ'.1 q = σ.1 q := by
  obtain ⟨⟨b, gg, h0e⟩, h0l⟩ := hM.e0
  have n1 : ∀ q, q < σ.2.1 → (nwO σ 11 [.int 0, .null, .int 0] 3).1 q = σ.1 q := fun q hq => up_n (by omega)
  obtain ⟨σ', s1, M, f1⟩ := K_lnew (σ := nwO σ 11 [.int 0, .null, .int 0] 3) (l := σ.2.1) (ad := ad) (g := g) ⟨_, up_s, rfl⟩ ⟨b, gg, (n1 _ h0l).trans h0e⟩
  exact ⟨σ', s1, M, f1.1, fun q hq => (f1.2 q (by omega)).trans (n1 q hq)⟩
theorem RL.forget (h : RL ad hC x0 ot o σ T) : ∃ σ' T', KX1_forget ad x0 σ = some σ' ∧ J_forget T = some T' ∧ RL ad hC x0 ot o σ' T' ∧ fX ot o σ σ' := by
  obtain ⟨a, own, h0, P, R, lo, n, A, S, tp, i5, v9, v10, v11, sd, e1, e2, e3, H⟩ := h
  subst e1 e2 e3
  obtain ⟨T0, e0, H0, hz⟩ := H.z
  obtain ⟨σ1, s1, M1, z1, k1⟩ := K_nlist (g := fun _ => 0) H.1
  have f1 : fa (fun _ => False) 1 3 σ σ1 := ⟨by rw [z1]; dsimp only; omega, fun q h1 _ => k1 q h1⟩
  have H1 := (H0.mem H0.1.eo sub.rf).al f1
  obtain ⟨σ2, own', s2, H2, k2, z2⟩ := H1.set8 (S' := (0, S.2)) (T' := tw_F T0 52 (nI 0)) M1 ⟨exO_ge (Nat.le_refl _), H0.1.2.1.ge (Nat.le_refl _), by rw [z1]; exact Nat.lt_succ_self _⟩ (Or.inl (Or.inl rfl)) (by omega) (fun i hi => absurd hi (Nat.not_lt_zero _)) ⟨F_s, fun i hi => absurd hi (Nat.not_lt_zero _)⟩ ⟨Nat.zero_le _, fun i hi => absurd hi (Nat.not_lt_zero _)⟩ ⟨fun k hk => F_n hk, fun _ _ => rfl⟩
  refine ⟨σ2, tw_F T0 52 (nI 0), ?_, ?_, H2.rr' rfl rfl rfl, ((fC.nw H.1.1 f1).tr (fC.x H1.1.1 k2 z2)).mo (by omega) (by omega)⟩
  · unfold KX1_forget
    simp only [s1, s2, bdS]
  · unfold J_forget
    simp only [e0, bdS]
end UN
