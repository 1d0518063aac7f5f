/-! the plain law: one goes from a list; a list's copy -/
set_option maxRecDepth 100000
section MD
variable {σ : vv_S} {ad : Nat → Nat} {l e cap n v : Nat} {g g2 : Nat → Nat} {gg gg2 : Nat → Option Nat} {mc : Int32}
theorem K_fr34 (h1 : σ.1 l = some (true, .inr (11, [.int mc, .ref e, .int (nI (n + 1))]))) (h2 : σ.1 e = some (obE true cap gg2)) (hn : n < cap) (hc : cap < 1048576) (ha : ¬ (e = ad 0 ∨ e = ad 1)) (hg : ∀ i, i < n → gg2 i = some (g2 i) ∧ anyK σ "java/lang/Object" (g2 i) = true) (h0 : ∀ i, n + 1 ≤ i → i < cap → gg2 i = none) : ∃ σ', KJ2_fastRemove_34 l e (nI n) σ = some σ' ∧ isMc σ' ad l e cap n g2 ∧ fr (fun q => q = l ∨ q = e) σ σ' := by
  have hne := le_ne h1 h2
  have s1 : pF σ l 11 2 (.int (nI n)) = some (vv_up σ.1 l (true, .inr (11, [.int mc, .ref e, .int (nI n)])), σ.2) := by unfold pF; rw [h1]; rfl
  have s2 : sN (vv_up σ.1 l (true, .inr (11, [.int mc, .ref e, .int (nI n)])), σ.2) e (nI n) = some (vv_up (vv_up σ.1 l (true, .inr (11, [.int mc, .ref e, .int (nI n)]))) e (obE true cap (va_up gg2 n none)), σ.2) := by
    unfold sN
    dsimp only
    rw [up_n hne, h2]
    show (if ¬ (nI n < 0 ∨ cap ≤ (nI n).toNatClampNeg) then some (vv_up (vv_up σ.1 l (true, .inr (11, [.int mc, .ref e, .int (nI n)]))) e (true, .inl (vObj, cap, .inr (.inr (.inr (.inr (va_up gg2 (nI n).toNatClampNeg none)))))), σ.2) else none) = _
    rw [if_pos (nI_in (by omega) (by omega)), nI_clamp (by omega)]
    rfl
  refine ⟨(vv_up (vv_up σ.1 l (true, .inr (11, [.int mc, .ref e, .int (nI n)]))) e (obE true cap (va_up gg2 n none)), σ.2), ?_, ⟨mc, true, va_up gg2 n none, ?_, up_s, Or.inr rfl, ⟨fun h => by omega, fun h => absurd h ha⟩, by omega, hc, fun i hi => ⟨?_, ?_⟩, fun i i1 i2 => ?_⟩, rfl, fun q hq => ?_⟩
  · unfold KJ2_fastRemove_34
    simp only [s1, s2, bdS]
  · show (vv_up _ e _) l = _
    rw [up_n (Ne.symm hne), up_s]
  · unfold va_up
    rw [if_neg (by omega)]
    exact (hg i hi).1
  · have a1 : (vv_up (vv_up σ.1 l (true, .inr (11, [.int mc, .ref e, .int (nI n)]))) e (obE true cap (va_up gg2 n none))) l = some (true, .inr (11, [.int mc, .ref e, .int (nI n)])) := by rw [up_n (Ne.symm hne), up_s]
    refine any_s (hg i hi).2 a1 fun h => ?_
    show (vv_up _ e _) _ = _
    rw [up_n (any_e h2 (hg i hi).2), up_n h]
  · unfold va_up
    by_cases h : i = n
    · rw [if_pos h]
    · rw [if_neg h]
      exact h0 i (by omega) i2
  · show (vv_up _ e _) q = _
    rw [up_n (fun z => hq (Or.inr z)), up_n (fun z => hq (Or.inl z))]
theorem ck_ix {i m : Nat} (hi : i < m) (hm : m < 2 ^ 31) : KJ17_checkIndex (nI i) (nI m) = some (nI i) := by
  unfold KJ17_checkIndex KJ11_checkIndex
  rw [if_neg (nI_pos (by omega)), if_pos (nI_lt hi hm)]
  rfl
theorem aQ_at {h : Nat → Option vv_E} {z : Nat × Nat} {b : Bool} (h2 : h e = some (obE b cap gg)) {i y : Nat} (hi : i < cap) (hc : cap < 2 ^ 31) (hg : gg i = some y) : aQ (h, z) e (nI i) = some y := by
  unfold aQ
  dsimp only
  rw [h2]
  show (if (FieldType.object "java/lang/Object").isReference = true ∧ ¬ ((nI i) < 0 ∨ cap ≤ (nI i).toNatClampNeg) then gg (nI i).toNatClampNeg else none) = _
  rw [if_pos ⟨rfl, nI_in hi hc⟩, nI_clamp (by omega), hg]
/-- the last one goes -/
theorem K_rml (M : isMc σ ad l e cap (n + 1) g) : ∃ σ', KJ2_remove l (nI n) σ = some (g n, σ') ∧ isMc σ' ad l e cap n g ∧ fr (fun q => q = l ∨ q = e) σ σ' := by
  obtain ⟨mc, b, gg, k1, k2, k3, k4, k5, k6, k7, k8⟩ := M
  have hb : b = true := k3.resolve_left (by omega)
  subst hb
  have hne := le_ne k1 k2
  have hea : ¬ (e = ad 0 ∨ e = ad 1) := fun h => by have := k4.mpr h; omega
  obtain ⟨σ1, hσ1⟩ : ∃ σ1 : vv_S, σ1 = (vv_up σ.1 l (true, .inr (11, [.int (mc + nI 1), .ref e, .int (nI (n + 1))])), σ.2) := ⟨_, rfl⟩
  have s1 : pF σ l 11 0 (.int (mc + nI 1)) = some σ1 := by rw [hσ1]; unfold pF; rw [k1]; rfl
  have a1 : σ1.1 l = some (true, .inr (11, [.int (mc + nI 1), .ref e, .int (nI (n + 1))])) := by rw [hσ1]; exact up_s
  have a2 : ∀ q, q ≠ l → σ1.1 q = σ.1 q := fun q hq => by rw [hσ1]; exact up_n hq
  have a3 : σ1.2 = σ.2 := by rw [hσ1]
  have g0 : gI σ l 11 0 = some mc := by unfold gI gV; rw [k1]; rfl
  have g2 : gI σ l 11 2 = some (nI (n + 1)) := by unfold gI gV; rw [k1]; rfl
  have g2' : gI σ1 l 11 2 = some (nI (n + 1)) := by unfold gI gV; rw [a1]; rfl
  have g1 : gR σ l 11 1 = some e := by unfold gR gV; rw [k1]; rfl
  have o1 : isO σ l 11 = some () := by unfold isO; rw [k1]; rfl
  have q1 : aQ σ e (nI n) = some (g n) := aQ_at (h := σ.1) (z := σ.2) k2 (by omega) (by omega) (k7 n (by omega)).1
  obtain ⟨σ2, s2, M2, f2⟩ := K_fr34 (ad := ad) (g2 := g) a1 ((a2 e hne).trans k2) (by omega) k6 hea (fun i hi => ⟨(k7 i (by omega)).1, any_s (k7 i (by omega)).2 a1 (a2 _)⟩) k8
  refine ⟨σ2, ?_, M2, by rw [f2.1, a3], fun q hq => (f2.2 q hq).trans (a2 q fun z => hq (Or.inl z))⟩
  unfold KJ2_remove KJ2_fastRemove
  simp only [g2, ck_ix (show n < n + 1 by omega) (show n + 1 < 2 ^ 31 by omega), g1, q1, o1, g0, s1, g2', nI_1m, bdS]
  rw [if_pos (nI_le (Nat.le_refl _) (by omega))]
  simp only [s2, bdS]
/-- the first one goes -/
theorem K_rm0 (M : isMc σ ad l e cap (n + 1) g) (h0 : 0 < n) : ∃ σ', KJ2_remove l (nI 0) σ = some (g 0, σ') ∧ isMc σ' ad l e cap n (fun i => g (i + 1)) ∧ fr (fun q => q = l ∨ q = e) σ σ' := by
  obtain ⟨mc, b, gg, k1, k2, k3, k4, k5, k6, k7, k8⟩ := M
  have hb : b = true := k3.resolve_left (by omega)
  subst hb
  have hne := le_ne k1 k2
  have hea : ¬ (e = ad 0 ∨ e = ad 1) := fun h => by have := k4.mpr h; omega
  obtain ⟨σ1, hσ1⟩ : ∃ σ1 : vv_S, σ1 = (vv_up σ.1 l (true, .inr (11, [.int (mc + nI 1), .ref e, .int (nI (n + 1))])), σ.2) := ⟨_, rfl⟩
  have s1 : pF σ l 11 0 (.int (mc + nI 1)) = some σ1 := by rw [hσ1]; unfold pF; rw [k1]; rfl
  have a1 : σ1.1 l = some (true, .inr (11, [.int (mc + nI 1), .ref e, .int (nI (n + 1))])) := by rw [hσ1]; exact up_s
  have a2 : ∀ q, q ≠ l → σ1.1 q = σ.1 q := fun q hq => by rw [hσ1]; exact up_n hq
  have a3 : σ1.2 = σ.2 := by rw [hσ1]
  have b1 : σ1.1 e = some (obE true cap gg) := (a2 e hne).trans k2
  have g0 : gI σ l 11 0 = some mc := by unfold gI gV; rw [k1]; rfl
  have g2 : gI σ l 11 2 = some (nI (n + 1)) := by unfold gI gV; rw [k1]; rfl
  have g2' : gI σ1 l 11 2 = some (nI (n + 1)) := by unfold gI gV; rw [a1]; rfl
  have g1 : gR σ l 11 1 = some e := by unfold gR gV; rw [k1]; rfl
  have o1 : isO σ l 11 = some () := by unfold isO; rw [k1]; rfl
  have q1 : aQ σ e (nI 0) = some (g 0) := aQ_at (h := σ.1) (z := σ.2) k2 (by omega) (by omega) (k7 0 (by omega)).1
  obtain ⟨σc, hσc⟩ : ∃ σc : vv_S, σc = (vv_up σ1.1 e (obE true cap (va_cpy gg gg 1 0 n)), σ1.2) := ⟨_, rfl⟩
  have s3 : cpQ σ1 e (nI 0 + nI 1) e (nI 0) (nI n - nI 0) = some σc := by
    rw [nI_add, pk_sub (by omega), Nat.zero_add, Nat.sub_zero, hσc]
    unfold cpQ
    rw [b1]
    show (if ¬ nI 1 < 0 ∧ ¬ nI 0 < 0 ∧ ¬ nI n < 0 ∧ (nI 1).toNatClampNeg + (nI n).toNatClampNeg ≤ cap ∧ (nI 0).toNatClampNeg + (nI n).toNatClampNeg ≤ cap ∧ (List.range (nI n).toNatClampNeg).all (fun i => match gg ((nI 1).toNatClampNeg + i) with | none => true | some y => anyK σ1 "java/lang/Object" y) = true then some (vv_up σ1.1 e (true, .inl (vObj, cap, .inr (.inr (.inr (.inr (va_cpy gg gg (nI 1).toNatClampNeg (nI 0).toNatClampNeg (nI n).toNatClampNeg)))))), σ1.2) else none) = _
    rw [nI_clamp (show 0 < 2 ^ 31 by omega), nI_clamp (show 1 < 2 ^ 31 by omega), nI_clamp (show n < 2 ^ 31 by omega), if_pos]
    · rfl
    · refine ⟨nI_pos (by omega), nI_pos (by omega), nI_pos (by omega), by omega, by omega, ?_⟩
      rw [List.all_eq_true]
      intro i hi
      rw [List.mem_range] at hi
      rw [(k7 (1 + i) (by omega)).1]
      exact any_s (k7 (1 + i) (by omega)).2 a1 (a2 _)
  have c1 : σc.1 l = some (true, .inr (11, [.int (mc + nI 1), .ref e, .int (nI (n + 1))])) := by rw [hσc]; exact (up_n (Ne.symm hne)).trans a1
  have c2 : σc.1 e = some (obE true cap (va_cpy gg gg 1 0 n)) := by rw [hσc]; exact up_s
  have c3 : ∀ q, q ≠ e → σc.1 q = σ1.1 q := fun q hq => by rw [hσc]; exact up_n hq
  obtain ⟨σ2, s2, M2, f2⟩ := K_fr34 (ad := ad) (g2 := fun i => g (i + 1)) c1 c2 (by omega) k6 hea (fun i hi => ⟨by
    unfold va_cpy
    rw [if_pos ⟨by omega, by omega⟩, show 1 + (i - 0) = i + 1 by omega]
    exact (k7 (i + 1) (by omega)).1, by
    have h9 : anyK σ1 "java/lang/Object" (g (i + 1)) = true := any_s (k7 (i + 1) (by omega)).2 a1 (a2 _)
    rw [any_k (c3 _ (any_e b1 h9))]
    exact h9⟩) (fun i i1 i2 => by
    unfold va_cpy
    rw [if_neg (by omega)]
    exact k8 i i1 i2)
  refine ⟨σ2, ?_, M2, by rw [f2.1, hσc]; exact a3, fun q hq => (f2.2 q hq).trans ((c3 q fun z => hq (Or.inr z)).trans (a2 q fun z => hq (Or.inl z)))⟩
  unfold KJ2_remove KJ2_fastRemove
  simp only [g2, ck_ix (show 0 < n + 1 by omega) (show n + 1 < 2 ^ 31 by omega), g1, q1, o1, g0, s1, g2', nI_1m, bdS]
  rw [if_neg (nI_ge h0 (by omega))]
  simp only [s3, s2, bdS]
/-- a list's copy -/
theorem K_lcopy (M : isMc σ ad l e cap n g) (hn : n ≤ 1000) {x : Nat} (hx : σ.1 x = some (true, .inr (11, [.int 0, .null, .int 0]))) (hlt : l < σ.2.1 ∧ e < σ.2.1 ∧ x < σ.2.1 ∧ ad 0 < σ.2.1 ∧ ad 1 < σ.2.1) (h1e : ∃ b gg, σ.1 (ad 1) = some (obE b 0 gg)) (hg : ∀ i, i < n → g i < σ.2.1) (hgx : ∀ i, i < n → g i ≠ x) (hlx : l ≠ x) : ∃ σ' e', KJ2_init_2 ad x l σ = some σ' ∧ isMc σ' ad x e' n n g ∧ (n = 0 ∧ e' = ad 1 ∨ 0 < n ∧ e' = σ.2.1) ∧ σ'.2 = (σ.2.1 + 1, σ.2.2 + n) ∧ ∀ q, q < σ.2.1 → q ≠ x → σ'.1 q = σ.1 q := by
  obtain ⟨mc, b, gg, k1, k2, k3, k4, k5, k6, k7, k8⟩ := M
  have hxe : e ≠ x := le_ne hx k2
  obtain ⟨σ1, hσ1⟩ : ∃ σ1 : vv_S, σ1 = (vv_up σ.1 x (true, .inr (11, [.int (nI 0), .null, .int 0])), σ.2) := ⟨_, rfl⟩
  have s1 : pF σ x 11 0 (.int (nI 0)) = some σ1 := by rw [hσ1]; unfold pF; rw [hx]; rfl
  have a2 : ∀ q, q ≠ x → σ1.1 q = σ.1 q := fun q hq => by rw [hσ1]; exact up_n hq
  have a3 : σ1.2 = σ.2 := by rw [hσ1]
  have ax : σ1.1 x = some (true, .inr (11, [.int (nI 0), .null, .int 0])) := by rw [hσ1]; exact up_s
  have l1 : σ1.1 l = some (true, .inr (11, [.int mc, .ref e, .int (nI n)])) := (a2 l hlx).trans k1
  have e1 : σ1.1 e = some (obE b cap gg) := (a2 e hxe).trans k2
  have g1 : gR σ1 l 11 1 = some e := by unfold gR gV; rw [l1]; rfl
  have g2 : gI σ1 l 11 2 = some (nI n) := by unfold gI gV; rw [l1]; rfl
  have o1 : isO σ1 l 11 = some () := by unfold isO; rw [l1]; rfl
  have ia : isA σ1 e vObj = some () := by unfold isA; rw [e1]; rfl
  obtain ⟨σ2, hσ2⟩ : ∃ σ2 : vv_S, σ2 = (vv_up σ1.1 σ1.2.1 (obE true n (fun _ => none)), σ1.2.1 + 1, σ1.2.2 + n) := ⟨_, rfl⟩
  have q1 : nwQ σ1 "java/lang/Object" (nI n) = some σ2 := by
    rw [hσ2]
    unfold nwQ
    rw [if_neg (by rw [nI_clamp (by omega)]; intro h; rcases h with h | h; exact nI_pos (by omega) h; omega), nI_clamp (by omega)]
    rfl
  have hz1 : σ1.2.1 = σ.2.1 := by rw [a3]
  have b0 : σ2.1 σ.2.1 = some (obE true n (fun _ => none)) := by rw [hσ2, hz1]; exact up_s
  have b2 : ∀ q, q < σ.2.1 → σ2.1 q = σ1.1 q := fun q hq => by rw [hσ2, hz1]; exact up_n (by omega)
  have b3 : σ2.2 = (σ.2.1 + 1, σ.2.2 + n) := by rw [hσ2, a3]
  have al : aLn σ2 e = some (nI cap) := by unfold aLn; rw [b2 e hlt.2.1, e1]; rfl
  obtain ⟨σ3, hσ3⟩ : ∃ σ3 : vv_S, σ3 = (vv_up σ2.1 σ.2.1 (obE true n (va_cpy gg (fun _ => none) 0 0 n)), σ2.2) := ⟨_, rfl⟩
  have q3 : cpQ σ2 e (nI 0) σ1.2.1 (nI 0) (mnI (nI cap) (nI n)) = some σ3 := by
    rw [mn_nI (by omega) (by omega), Nat.min_eq_right (by omega), hσ3, hz1]
    unfold cpQ
    rw [b2 e hlt.2.1, e1, b0]
    show (if ¬ nI 0 < 0 ∧ ¬ nI 0 < 0 ∧ ¬ nI n < 0 ∧ (nI 0).toNatClampNeg + (nI n).toNatClampNeg ≤ cap ∧ (nI 0).toNatClampNeg + (nI n).toNatClampNeg ≤ n ∧ (List.range (nI n).toNatClampNeg).all (fun i => match gg ((nI 0).toNatClampNeg + i) with | none => true | some y => anyK σ2 "java/lang/Object" y) = true then some (vv_up σ2.1 σ.2.1 (true, .inl (vObj, n, .inr (.inr (.inr (.inr (va_cpy gg (fun _ => none) (nI 0).toNatClampNeg (nI 0).toNatClampNeg (nI n).toNatClampNeg)))))), σ2.2) else none) = _
    rw [nI_clamp (show 0 < 2 ^ 31 by omega), nI_clamp (show n < 2 ^ 31 by omega), if_pos]
    · rfl
    · refine ⟨nI_pos (by omega), nI_pos (by omega), nI_pos (by omega), by omega, by omega, ?_⟩
      rw [List.all_eq_true]
      intro i hi
      rw [List.mem_range] at hi
      rw [Nat.zero_add, (k7 i hi).1]
      dsimp only
      rw [any_k (b2 _ (hg i hi)), any_k (a2 _ (hgx i hi))]
      exact (k7 i hi).2
  have c0 : σ3.1 σ.2.1 = some (obE true n (va_cpy gg (fun _ => none) 0 0 n)) := by rw [hσ3]; exact up_s
  have c2 : ∀ q, q < σ.2.1 → σ3.1 q = σ1.1 q := fun q hq => by rw [hσ3]; exact (up_n (by omega)).trans (b2 q hq)
  have c3 : σ3.2 = (σ.2.1 + 1, σ.2.2 + n) := by rw [hσ3]; exact b3
  have t1 : KJ2_toArray ad l σ1 = some (σ.2.1, σ3) := by
    unfold KJ2_toArray KJ16_copyOf KJ16_copyOf_2
    simp only [g1, g2, ia, if_true, q1, al, q3, bdS]
    rw [hz1]
  have al3 : aLn σ3 σ.2.1 = some (nI n) := by unfold aLn; rw [c0]; rfl
  have cx : σ3.1 x = some (true, .inr (11, [.int (nI 0), .null, .int 0])) := (c2 x hlt.2.2.1).trans ax
  obtain ⟨σ4, hσ4⟩ : ∃ σ4 : vv_S, σ4 = (vv_up σ3.1 x (true, .inr (11, [.int (nI 0), .null, .int (nI n)])), σ3.2) := ⟨_, rfl⟩
  have s4 : pF σ3 x 11 2 (.int (nI n)) = some σ4 := by rw [hσ4]; unfold pF; rw [cx]; rfl
  have d0 : ∀ q, q ≠ x → σ4.1 q = σ3.1 q := fun q hq => by rw [hσ4]; exact up_n hq
  have d3 : σ4.2 = (σ.2.1 + 1, σ.2.2 + n) := by rw [hσ4]; exact c3
  have dx : σ4.1 x = some (true, .inr (11, [.int (nI 0), .null, .int (nI n)])) := by rw [hσ4]; exact up_s
  have o4 : isO σ4 l 11 = some () := by unfold isO; rw [d0 l hlx, c2 l hlt.1, l1]; rfl
  have i0 : KJ1_init x σ = some σ1 := by
    have e0 : KJ0_init x = some () := rfl
    unfold KJ1_init
    simp only [e0, s1, bdS]
  by_cases hz : n = 0
  · subst hz
    obtain ⟨σ5, hσ5⟩ : ∃ σ5 : vv_S, σ5 = (vv_up σ4.1 x (true, .inr (11, [.int (nI 0), .ref (ad 1), .int (nI 0)])), σ4.2) := ⟨_, rfl⟩
    have s5 : pF σ4 x 11 1 (.ref (ad 1)) = some σ5 := by rw [hσ5]; unfold pF; rw [dx]; rfl
    obtain ⟨b9, g9, h9⟩ := h1e
    have h1x : ad 1 ≠ x := le_ne hx h9
    refine ⟨σ5, ad 1, ?_, ⟨nI 0, b9, g9, by rw [hσ5]; exact up_s, ?_, Or.inl rfl, ⟨fun _ => Or.inr rfl, fun _ => rfl⟩, Nat.le_refl _, by omega, fun i hi => by omega, fun i _ hi => by omega⟩, Or.inl ⟨rfl, rfl⟩, by rw [hσ5]; exact d3, fun q h1 h2 => ?_⟩
    · unfold KJ2_init_2 KJ2_init_2_64
      simp only [i0, o1, t1, al3, s4, bdS]
      rw [if_pos nI_0]
      simp only [s5, bdS]
    · rw [hσ5]
      show (vv_up _ x _) (ad 1) = _
      rw [up_n h1x, d0 _ h1x, c2 _ hlt.2.2.2.2, a2 _ h1x]
      exact h9
    · rw [hσ5]
      show (vv_up _ x _) q = _
      rw [up_n h2, d0 q h2, c2 q h1, a2 q h2]
  · obtain ⟨σ5, hσ5⟩ : ∃ σ5 : vv_S, σ5 = (vv_up σ4.1 x (true, .inr (11, [.int (nI 0), .ref σ.2.1, .int (nI n)])), σ4.2) := ⟨_, rfl⟩
    have s5 : pF σ4 x 11 1 (.ref σ.2.1) = some σ5 := by rw [hσ5]; unfold pF; rw [dx]; rfl
    have hxs : σ.2.1 ≠ x := by have := hlt.2.2.1; omega
    refine ⟨σ5, σ.2.1, ?_, ⟨nI 0, true, va_cpy gg (fun _ => none) 0 0 n, by rw [hσ5]; exact up_s, ?_, Or.inr rfl, ⟨fun h => absurd h hz, fun h => by have := hlt.2.2.2; omega⟩, Nat.le_refl _, by omega, fun i hi => ⟨?_, ?_⟩, fun i _ hi => by omega⟩, Or.inr ⟨by omega, rfl⟩, by rw [hσ5]; exact d3, fun q h1 h2 => ?_⟩
    · unfold KJ2_init_2 KJ2_init_2_64
      simp only [i0, o1, t1, al3, s4, bdS]
      rw [if_neg (nI_ne0 (by omega) (by omega))]
      simp only [o4, s5, bdS]
    · rw [hσ5]
      show (vv_up _ x _) σ.2.1 = _
      rw [up_n hxs, d0 _ hxs]
      exact c0
    · unfold va_cpy
      rw [if_pos ⟨by omega, by omega⟩, show 0 + (i - 0) = i by omega]
      exact (k7 i hi).1
    · rw [any_k (σ := σ)]
      · exact (k7 i hi).2
      · rw [hσ5]
        show (vv_up _ x _) _ = _
        rw [up_n (hgx i hi), d0 _ (hgx i hi), c2 _ (hg i hi), a2 _ (hgx i hi)]
    · rw [hσ5]
      show (vv_up _ x _) q = _
      rw [up_n h2, d0 q h2, c2 q h1, a2 q h2]
end MD
