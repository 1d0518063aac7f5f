/-! the plain law: the component's places are set anew -/
set_option maxRecDepth 100000
section SZ
variable {ad a own : Nat → Nat} {hC h0 : Nat → Option vv_E} {P : pvT} {R : Nat → Int32} {lo : Int32} {n : Nat} {A : Nat → Nat → Int32} {S : seT} {tp : Nat} {i5 : Int32} {v9 v10 v11 : Value} {sd : Int32} {σ σ' : vv_S} {T T' : tw_T}
/-- nobody's yet -/
def frs (own : Nat → Nat) (h0 : Nat → Option vv_E) (N q : Nat) : Prop := own q = 0 ∧ h0 q = none ∧ q < N
theorem x_p {x k : Nat} {fs : List Value} {v : Value} (hx : σ.1 x = some (true, .inr (0, fs))) (hk : k < fs.length) : pF σ x 0 k v = some (vv_up σ.1 x (true, .inr (0, fs.set k v)), σ.2) := by
  unfold pF
  rw [hx]
  show (if 0 = 0 ∧ k < fs.length then _ else none) = _
  rw [if_pos ⟨rfl, hk⟩]
theorem upA_n {k v q : Nat} (h : q ≠ k) : upA a k v q = a q := by unfold upA; rw [if_neg h]
theorem upA_s {k v : Nat} : upA a k v k = v := by unfold upA; rw [if_pos rfl]
theorem upA_i {k : Nat} : upA a k (a k) = a := by
  funext q
  unfold upA
  by_cases h : q = k
  · rw [if_pos h, h]
  · rw [if_neg h]
theorem rg_n {a' : Nat → Nat} {k q : Nat} (h : a' k = a k) (hq : rg a' k q) : rg a k q := by
  unfold rg at hq ⊢
  rw [h] at hq
  exact hq
theorem rg_e {k q : Nat} (h : ¬ (k = 2 ∨ k = 12)) (h2 : k ≠ 22) (hq : rg a k q) : q = a k := by
  unfold rg at hq
  rw [if_neg h, if_neg h2] at hq
  exact hq
/-- only seen has changed -/
def jB (T T' : tw_T) : Prop := (∀ k, k ≠ 52 → T'.1 k = T.1 k) ∧ ∀ r, r ≠ 28 → T'.2.2 r = T.2.2 r
/-- another Coast -/
theorem Rl.set2 {b : Nat} {R' : Nat → Int32} {lo' : Int32} (H : Rl ad hC a own h0 P R lo n A S tp i5 v9 v10 v11 sd σ T) (C : isCo σ (a 20) b R' lo') (hb : ∀ q, coA b q → frs own h0 σ.2.1 q) (hi : invR P R') (r : isRw T' 0 R') (g : jz T T') : ∃ σ' own', pF σ (a 20) 0 2 (.ref b) = some σ' ∧ Rl ad hC (upA a 2 b) own' h0 P R' lo' n A S tp i5 v9 v10 v11 sd σ' T' ∧ (∀ q, q ≠ a 20 → σ'.1 q = σ.1 q) ∧ σ'.2 = σ.2 := by
  obtain ⟨hM, hX, hP, hc, hU, hT, hF, hA, hS, hI, hJ⟩ := H
  obtain ⟨σ', hσ'⟩ : ∃ σ' : vv_S, σ' = (vv_up σ.1 (a 20) (true, .inr (0, xF (upA a 2 b) (nI tp) i5 v9 v10 v11 sd)), σ.2) := ⟨_, rfl⟩
  have k1 : ∀ q, q ≠ a 20 → σ'.1 q = σ.1 q := fun q hq => by rw [hσ']; exact up_n hq
  have k2 : σ'.2 = σ.2 := by rw [hσ']
  have kp : ∀ t, t ≠ 21 → Kp own t σ σ' := fun t ht q _ h2 => k1 q fun z => ht (by rw [← h2, z, hM.1.m20.1])
  have hs : sub h0 σ'.1 := fun q e he => by
    rw [k1 q fun z => by have := (hM.2.1 q e he).1; rw [z, hM.1.m20.1] at this; omega]
    exact hM.2.2.1 q e he
  have c0 : σ'.1 (ad 0) = σ.1 (ad 0) := by
    obtain ⟨b9, gg, h9⟩ := hM.2.2.2.2.1.2.1
    exact (hs _ _ (hM.2.2.2.1 _ _ h9)).trans (hM.2.2.1 _ _ (hM.2.2.2.1 _ _ h9)).symm
  have c1 : σ'.1 (ad 1) = σ.1 (ad 1) := by
    obtain ⟨b9, gg, h9⟩ := hM.2.2.2.2.2.1
    exact (hs _ _ (hM.2.2.2.1 _ _ h9)).trans (hM.2.2.1 _ _ (hM.2.2.2.1 _ _ h9)).symm
  have hb20 : ¬ coA b (a 20) := fun z => by have := (hb _ z).1; rw [hM.1.m20.1] at this; omega
  obtain ⟨cA, gA, q1, q2, q3⟩ := hA
  obtain ⟨cS, gS, s1, s2, s3⟩ := hS
  refine ⟨σ', fun q => if b ≤ q ∧ q < b + 10 then 3 else own q, ?_, ⟨⟨fun k q h1 h2 h3 => ?_, fun q e he => ?_, hs, hM.2.2.2.1, by rw [k2]; exact hM.2.2.2.2⟩, by rw [hσ']; exact up_s, hP, ⟨?_, C.ke fun q a1 a2 => k1 q fun z => hb20 (by rw [← z]; exact ⟨a1, a2⟩), hi⟩, hU.k hM.1 (kp 13 (by omega)) (kp 14 (by omega)), hT.k hM.1 (kp 4 (by omega)) (g.2 8 (by omega)), hF.k hM.1 (kp 7 (by omega)) (g.2 9 (by omega)), ⟨cA, gA, q1.ke (kp 8 (by omega) _ hM.1.m7.2 hM.1.m7.1) (mc_e q1 hM.1 (Or.inl rfl) rfl (kp 18 (by omega)) c0 c1) (fun i hi _ => q3.any hs i hi), q2, q3⟩, ⟨cS, gS, s1.ke (kp 9 (by omega) _ hM.1.m8.2 hM.1.m8.1) (mc_e s1 hM.1 (Or.inr rfl) rfl (kp 19 (by omega)) c0 c1) (fun i hi _ => s3.any hs i hi), s2, s3⟩, hI.k (fun k h1 h2 => g.1 k (by omega)) (fun r h1 h2 => g.2 r (by omega)) (g.1 1 (by omega)) (g.1 3 (by omega)), hJ.z g r⟩, k1, k2⟩
  · rw [hσ', x_p hX (show _ < 15 by decide)]
    rfl
  · rw [k2]
    by_cases hk : k = 2
    · subst hk
      have h4 : coA b q := by
        unfold rg at h3
        rw [if_pos (Or.inl rfl), upA_s] at h3
        exact h3
      exact ⟨if_pos h4, (hb q h4).2.2⟩
    · have h9 := hM.1 k q h1 (fun z => by have := h2 z; rw [upA_n hk] at this; exact this) (rg_n (upA_n hk) h3)
      refine ⟨?_, h9.2⟩
      show (if b ≤ q ∧ q < b + 10 then 3 else own q) = _
      rw [if_neg fun z => by have := (hb q z).1; omega]
      exact h9.1
  · rw [k2]
    have h9 := hM.2.1 q e he
    refine ⟨?_, h9.2⟩
    show (if b ≤ q ∧ q < b + 10 then 3 else own q) = _
    rw [if_neg fun z => by have := (hb q z).2.1; rw [he] at this; cases this]
    exact h9.1
  · exact hc.1.k (kp 1 (by omega) _ hM.1.m0.2 hM.1.m0.1)
/-- other acts, another list -/
theorem Rl.set7 {l' e' cap' n' : Nat} {gA' : Nat → Nat} {A' : Nat → Nat → Int32} (H : Rl ad hC a own h0 P R lo n A S tp i5 v9 v10 v11 sd σ T) (M : isMc σ ad l' e' cap' n' gA') (hl : frs own h0 σ.2.1 l') (he : (e' = ad 0 ∨ e' = ad 1) ∨ frs own h0 σ.2.1 e' ∧ e' ≠ l') (hcap : cap' ≤ 64) (hk : keO h0 (a 20) P n' gA' A') (hA' : isAc T' n' A') (g : jA T T') : ∃ σ' own', pF σ (a 20) 0 7 (.ref l') = some σ' ∧ Rl ad hC (upA (upA a 7 l') 17 e') own' h0 P R lo n' A' S tp i5 v9 v10 v11 sd σ' T' ∧ (∀ q, q ≠ a 20 → σ'.1 q = σ.1 q) ∧ σ'.2 = σ.2 := by
  obtain ⟨hM, hX, hP, hc, hU, hT, hF, -, hS, hI, hJ⟩ := H
  obtain ⟨σ', hσ'⟩ : ∃ σ' : vv_S, σ' = (vv_up σ.1 (a 20) (true, .inr (0, xF (upA (upA a 7 l') 17 e') (nI tp) i5 v9 v10 v11 sd)), σ.2) := ⟨_, rfl⟩
  have k1 : ∀ q, q ≠ a 20 → σ'.1 q = σ.1 q := fun q hq => by rw [hσ']; exact up_n hq
  have k2 : σ'.2 = σ.2 := by rw [hσ']
  have kp : ∀ t, t ≠ 21 → Kp own t σ σ' := fun t ht q _ h2 => k1 q fun z => ht (by rw [← h2, z, hM.1.m20.1])
  have hs : sub h0 σ'.1 := fun q e he => by
    rw [k1 q fun z => by have := (hM.2.1 q e he).1; rw [z, hM.1.m20.1] at this; omega]
    exact hM.2.2.1 q e he
  have c0 : σ'.1 (ad 0) = σ.1 (ad 0) := by
    obtain ⟨b9, gg, h9⟩ := hM.2.2.2.2.1.2.1
    exact (hs _ _ (hM.2.2.2.1 _ _ h9)).trans (hM.2.2.1 _ _ (hM.2.2.2.1 _ _ h9)).symm
  have c1 : σ'.1 (ad 1) = σ.1 (ad 1) := by
    obtain ⟨b9, gg, h9⟩ := hM.2.2.2.2.2.1
    exact (hs _ _ (hM.2.2.2.1 _ _ h9)).trans (hM.2.2.1 _ _ (hM.2.2.2.1 _ _ h9)).symm
  have hl20 : l' ≠ a 20 := fun z => by have := hl.1; rw [z, hM.1.m20.1] at this; omega
  have he20 : σ'.1 e' = σ.1 e' := by
    rcases he with (he | he) | he
    · rw [he]; exact c0
    · rw [he]; exact c1
    · exact k1 _ fun z => by have := he.1.1; rw [z, hM.1.m20.1] at this; omega
  obtain ⟨cS, gS, s1, s2, s3⟩ := hS
  obtain ⟨a1, a2, a3, a4, a5, a6, a7, a8⟩ := hJ
  refine ⟨σ', fun q => if q = l' then 8 else if q = e' ∧ ¬ (e' = ad 0 ∨ e' = ad 1) then 18 else own q, ?_, ⟨⟨fun k q h1 h2 h3 => ?_, fun q e he => ?_, hs, hM.2.2.2.1, by rw [k2]; exact hM.2.2.2.2⟩, by rw [hσ']; exact up_s, hP, hc.k hM.1 (kp 1 (by omega)) (kp 3 (by omega)), hU.k hM.1 (kp 13 (by omega)) (kp 14 (by omega)), hT.k hM.1 (kp 4 (by omega)) (g.2 8 (by omega)), hF.k hM.1 (kp 7 (by omega)) (g.2 9 (by omega)), ⟨cap', gA', M.ke (k1 _ hl20) he20 (fun i hi _ => hk.any hs i hi), hcap, hk⟩, ⟨cS, gS, s1.ke (kp 9 (by omega) _ hM.1.m8.2 hM.1.m8.1) (mc_e s1 hM.1 (Or.inr rfl) rfl (kp 19 (by omega)) c0 c1) (fun i hi _ => s3.any hs i hi), s2, s3⟩, hI.k (fun k h1 h2 => g.1 k (by omega)) (fun r h1 h2 => g.2 r (by omega)) (g.1 1 (by omega)) (g.1 3 (by omega)), ⟨a1.of (fun k h1 h2 => g.1 k (by omega)) (fun k h1 h2 => g.2 k (by omega)), a2.of (g.2 20 (by omega)) (g.1 1 (by omega)) (g.1 3 (by omega)), hA', a4.k (g.1 52 (by omega)) (g.2 28 (by omega)), a5, (g.1 13 (by omega)).trans a6, a7, (g.1 15 (by omega)).trans a8⟩⟩, k1, k2⟩
  · rw [hσ', x_p hX (show _ < 15 by decide)]
    rfl
  · rw [k2]
    show (if q = l' then 8 else if q = e' ∧ ¬ (e' = ad 0 ∨ e' = ad 1) then 18 else own q) = _ ∧ _
    by_cases hk : k = 7
    · subst hk
      have h4 := rg_e (by omega) (by omega) h3
      rw [show upA (upA a 7 l') 17 e' 7 = l' from rfl] at h4
      rw [if_pos h4, h4]
      exact ⟨rfl, hl.2.2⟩
    · by_cases hk7 : k = 17
      · subst hk7
        have h4 := rg_e (by omega) (by omega) h3
        rw [upA_s] at h4
        have h5 := h2 (Or.inl rfl)
        rw [upA_s] at h5
        have h6 : ¬ (e' = ad 0 ∨ e' = ad 1) := fun z => z.elim h5.1 h5.2
        have h7 := he.resolve_left h6
        rw [h4, if_neg h7.2, if_pos ⟨rfl, h6⟩]
        exact ⟨rfl, h7.1.2.2⟩
      · have ek : upA (upA a 7 l') 17 e' k = a k := by rw [upA_n hk7, upA_n hk]
        have h9 := hM.1 k q h1 (fun z => by have := h2 z; rw [ek] at this; exact this) (rg_n ek h3)
        rw [if_neg (fun z => by
          have := hl.1
          rw [← z] at this
          omega), if_neg fun z => by
          have := (he.resolve_left z.2).1.1
          rw [← z.1] at this
          omega]
        exact h9
  · rw [k2]
    have h9 := hM.2.1 q e he
    show (if q = l' then 8 else if q = e' ∧ ¬ (e' = ad 0 ∨ e' = ad 1) then 18 else own q) = _ ∧ _
    rename_i he'
    rw [if_neg (fun z => by
      have := hl.2.1
      rw [← z, he] at this
      cases this), if_neg fun z => by
      have := (he'.resolve_left z.2).1.2.1
      rw [← z.1, he] at this
      cases this]
    exact h9
/-- other things seen, another list -/
theorem Rl.set8 {l' e' cap' : Nat} {gS' : Nat → Nat} {S' : seT} (H : Rl ad hC a own h0 P R lo n A S tp i5 v9 v10 v11 sd σ T) (M : isMc σ ad l' e' cap' S'.1 gS') (hl : frs own h0 σ.2.1 l') (he : (e' = ad 0 ∨ e' = ad 1) ∨ frs own h0 σ.2.1 e' ∧ e' ≠ l') (hcap : cap' ≤ 64) (hk : seO h0 S' gS') (hA' : sJ T' S') (hS' : sOk P S') (g : jB T T') : ∃ σ' own', pF σ (a 20) 0 8 (.ref l') = some σ' ∧ Rl ad hC (upA (upA a 8 l') 18 e') own' h0 P R lo n A S' tp i5 v9 v10 v11 sd σ' T' ∧ (∀ q, q ≠ a 20 → σ'.1 q = σ.1 q) ∧ σ'.2 = σ.2 := by
  obtain ⟨hM, hX, hP, hc, hU, hT, hF, hA, -, hI, hJ⟩ := H
  obtain ⟨σ', hσ'⟩ : ∃ σ' : vv_S, σ' = (vv_up σ.1 (a 20) (true, .inr (0, xF (upA (upA a 8 l') 18 e') (nI tp) i5 v9 v10 v11 sd)), σ.2) := ⟨_, rfl⟩
  have k1 : ∀ q, q ≠ a 20 → σ'.1 q = σ.1 q := fun q hq => by rw [hσ']; exact up_n hq
  have k2 : σ'.2 = σ.2 := by rw [hσ']
  have kp : ∀ t, t ≠ 21 → Kp own t σ σ' := fun t ht q _ h2 => k1 q fun z => ht (by rw [← h2, z, hM.1.m20.1])
  have hs : sub h0 σ'.1 := fun q e he => by
    rw [k1 q fun z => by have := (hM.2.1 q e he).1; rw [z, hM.1.m20.1] at this; omega]
    exact hM.2.2.1 q e he
  have c0 : σ'.1 (ad 0) = σ.1 (ad 0) := by
    obtain ⟨b9, gg, h9⟩ := hM.2.2.2.2.1.2.1
    exact (hs _ _ (hM.2.2.2.1 _ _ h9)).trans (hM.2.2.1 _ _ (hM.2.2.2.1 _ _ h9)).symm
  have c1 : σ'.1 (ad 1) = σ.1 (ad 1) := by
    obtain ⟨b9, gg, h9⟩ := hM.2.2.2.2.2.1
    exact (hs _ _ (hM.2.2.2.1 _ _ h9)).trans (hM.2.2.1 _ _ (hM.2.2.2.1 _ _ h9)).symm
  have hl20 : l' ≠ a 20 := fun z => by have := hl.1; rw [z, hM.1.m20.1] at this; omega
  have he20 : σ'.1 e' = σ.1 e' := by
    rcases he with (he | he) | he
    · rw [he]; exact c0
    · rw [he]; exact c1
    · exact k1 _ fun z => by have := he.1.1; rw [z, hM.1.m20.1] at this; omega
  obtain ⟨cA, gA, s1, s2, s3⟩ := hA
  obtain ⟨a1, a2, a3, a4, a5, a6, a7, a8⟩ := hJ
  refine ⟨σ', fun q => if q = l' then 9 else if q = e' ∧ ¬ (e' = ad 0 ∨ e' = ad 1) then 19 else own q, ?_, ⟨⟨fun k q h1 h2 h3 => ?_, fun q e he => ?_, hs, hM.2.2.2.1, by rw [k2]; exact hM.2.2.2.2⟩, by rw [hσ']; exact up_s, hP, hc.k hM.1 (kp 1 (by omega)) (kp 3 (by omega)), hU.k hM.1 (kp 13 (by omega)) (kp 14 (by omega)), hT.k hM.1 (kp 4 (by omega)) (g.2 8 (by omega)), hF.k hM.1 (kp 7 (by omega)) (g.2 9 (by omega)), ⟨cA, gA, s1.ke (kp 8 (by omega) _ hM.1.m7.2 hM.1.m7.1) (mc_e s1 hM.1 (Or.inl rfl) rfl (kp 18 (by omega)) c0 c1) (fun i hi _ => s3.any hs i hi), s2, s3⟩, ⟨cap', gS', M.ke (k1 _ hl20) he20 (fun i hi _ => hk.any hs i hi), hcap, hk⟩, hI.k (fun k h1 h2 => g.1 k (by omega)) (fun r h1 h2 => g.2 r (by omega)) (g.1 1 (by omega)) (g.1 3 (by omega)), ⟨a1.of (fun k h1 h2 => g.1 k (by omega)) (fun k h1 h2 => g.2 k (by omega)), a2.of (g.2 20 (by omega)) (g.1 1 (by omega)) (g.1 3 (by omega)), a3.k (g.1 44 (by omega)) (g.2 21 (by omega)) (g.1 1 (by omega)) (g.1 3 (by omega)), hA', hS', (g.1 13 (by omega)).trans a6, a7, (g.1 15 (by omega)).trans a8⟩⟩, k1, k2⟩
  · rw [hσ', x_p hX (show _ < 15 by decide)]
    rfl
  · rw [k2]
    show (if q = l' then 9 else if q = e' ∧ ¬ (e' = ad 0 ∨ e' = ad 1) then 19 else own q) = _ ∧ _
    by_cases hk : k = 8
    · subst hk
      have h4 := rg_e (by omega) (by omega) h3
      rw [show upA (upA a 8 l') 18 e' 8 = l' from rfl] at h4
      rw [if_pos h4, h4]
      exact ⟨rfl, hl.2.2⟩
    · by_cases hk7 : k = 18
      · subst hk7
        have h4 := rg_e (by omega) (by omega) h3
        rw [upA_s] at h4
        have h5 := h2 (Or.inr rfl)
        rw [upA_s] at h5
        have h6 : ¬ (e' = ad 0 ∨ e' = ad 1) := fun z => z.elim h5.1 h5.2
        have h7 := he.resolve_left h6
        rw [h4, if_neg h7.2, if_pos ⟨rfl, h6⟩]
        exact ⟨rfl, h7.1.2.2⟩
      · have ek : upA (upA a 8 l') 18 e' k = a k := by rw [upA_n hk7, upA_n hk]
        have h9 := hM.1 k q h1 (fun z => by have := h2 z; rw [ek] at this; exact this) (rg_n ek h3)
        rw [if_neg (fun z => by
          have := hl.1
          rw [← z] at this
          omega), if_neg fun z => by
          have := (he.resolve_left z.2).1.1
          rw [← z.1] at this
          omega]
        exact h9
  · rw [k2]
    have h9 := hM.2.1 q e he
    show (if q = l' then 9 else if q = e' ∧ ¬ (e' = ad 0 ∨ e' = ad 1) then 19 else own q) = _ ∧ _
    rename_i he'
    rw [if_neg (fun z => by
      have := hl.2.1
      rw [← z, he] at this
      cases this), if_neg fun z => by
      have := (he'.resolve_left z.2).1.2.1
      rw [← z.1, he] at this
      cases this]
    exact h9
end SZ
