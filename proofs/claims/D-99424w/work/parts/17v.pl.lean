/-! the plain law: an act is kept -/
set_option maxRecDepth 100000
def upA (a : Nat → Nat) (k v : Nat) : Nat → Nat := fun q => if q = k then v else a q
theorem sub.tr {h h1 h2 : Nat → Option vv_E} (a : sub h h1) (b : sub h1 h2) : sub h h2 := fun q e he => b q e (a q e he)
theorem isIn.up {h h' : Nat → Option vv_E} {q : Nat} {v : Int32} (H : isIn h q v) (hs : sub h h') : isIn h' q v := by
  obtain ⟨f, h1⟩ := H
  exact ⟨f, hs _ _ h1⟩
theorem isPv.up {h h' : Nat → Option vv_E} {pa : Nat} {P : pvT} (H : isPv h pa P) (hs : sub h h') : isPv h' pa P := by
  obtain ⟨hb, fl, lm, ls, lw, gm, gs, gw, od, h1, h2, h3, h4, h5, h6, h7, h8⟩ := H
  refine ⟨hb, fl, lm, ls, lw, gm, gs, gw, od, hs _ _ h1, h2.up hs, fun t ht => (h3 t ht).up hs, h4.up hs, fun t ht => (h5 t ht).up hs, h6.up hs, fun w hw => ?_, ?_⟩
  · obtain ⟨f, h9⟩ := h7 w hw
    exact ⟨f, hs _ _ h9⟩
  · cases hP : P.2.2 with
    | none => rw [hP] at h8; exact h8
    | some ev =>
      rw [hP] at h8
      obtain ⟨fa, e1, e2⟩ := h8
      exact ⟨fa, e1, fun σ hσ => e2 σ (hs.tr hσ)⟩
/-- the twin's lasting things, the row apart -/
def jz (T T' : tw_T) : Prop := (∀ k, (1 ≤ k ∧ k ≤ 4) ∨ k = 13 ∨ k = 15 ∨ k = 44 ∨ k = 52 ∨ k = 57 ∨ k = 58 ∨ k = 59 → T'.1 k = T.1 k) ∧ ∀ r, r ≤ 9 ∨ r = 21 ∨ r = 28 ∨ r = 31 ∨ r = 32 ∨ r = 33 → T'.2.2 r = T.2.2 r
theorem jz.rf {T : tw_T} : jz T T := ⟨fun _ _ => rfl, fun _ _ => rfl⟩
theorem jz.tr {T T1 T2 : tw_T} (h1 : jz T T1) (h2 : jz T1 T2) : jz T T2 := ⟨fun k hk => (h2.1 k hk).trans (h1.1 k hk), fun r hr => (h2.2 r hr).trans (h1.2 r hr)⟩
theorem jfr.jz {b : Nat} {T T' : tw_T} (h : jfr b T T') : jz T T' := ⟨fun k hk => h.2.1 k (by omega), fun r hr => h.2.2.1 r (by omega) (by omega) (by omega)⟩
theorem jq.jz {T T' : tw_T} (h : jq T T') : jz T T' := ⟨h.1, h.2.1⟩
theorem isAc.k {T T' : tw_T} {n : Nat} {A : Nat → Nat → Int32} (h : isAc T n A) (h1 : T'.1 44 = T.1 44) (h2 : T'.2.2 21 = T.2.2 21) (u1 : T'.1 1 = T.1 1) (u3 : T'.1 3 = T.1 3) : isAc T' n A := ⟨h1.trans h.1, h.2.1, fun i k a b hu => by rw [h2]; exact h.2.2 i k a b (hu.k u1.symm u3.symm)⟩
theorem sJ.k {T T' : tw_T} {S : seT} (h : sJ T S) (h1 : T'.1 52 = T.1 52) (h2 : T'.2.2 28 = T.2.2 28) : sJ T' S := ⟨h1.trans h.1, fun i hi => by rw [h2]; exact h.2 i hi⟩
section RK
variable {ad a own : Nat → Nat} {hC h0 : Nat → Option vv_E} {P : pvT} {R : Nat → Int32} {lo : Int32} {n : Nat} {A : Nat → Nat → Int32} {S : seT} {tp : Nat} {i5 : Int32} {v9 v10 v11 : Value} {sd : Int32} {σ σ' : vv_S} {T T' : tw_T}
theorem rlJ.z {R' : Nat → Int32} (h : rlJ P R n A S tp i5 T) (f : jz T T') (r : isRw T' 0 R') : rlJ P R' n A S tp i5 T' := by
  obtain ⟨a1, a2, a3, a4, a5, a6, a7, a8⟩ := h
  exact ⟨a1.of (fun k h1 h2 => f.1 k (by omega)) (fun k h1 h2 => f.2 k (by omega)), r, a3.k (f.1 44 (by omega)) (f.2 21 (by omega)) (f.1 1 (by omega)) (f.1 3 (by omega)), a4.k (f.1 52 (by omega)) (f.2 28 (by omega)), a5, (f.1 13 (by omega)).trans a6, a7, (f.1 15 (by omega)).trans a8⟩
theorem keO.up {h0' : Nat → Option vv_E} {x0 : Nat} {gA : Nat → Nat} (h : keO h0 x0 P n gA A) (hs : sub h0 h0') : keO h0' x0 P n gA A := fun i hi => by
  obtain ⟨⟨lo, h1⟩, h2⟩ := h i hi
  exact ⟨⟨lo, h1.up hs⟩, h2⟩
theorem seO.up {h0' : Nat → Option vv_E} {gS : Nat → Nat} (h : seO h0 S gS) (hs : sub h0 h0') : seO h0' S gS := fun i hi => by
  obtain ⟨b, fe, h1, h2⟩ := h i hi
  exact ⟨b, fe, hs _ _ h1, h2⟩
theorem rlI.up {h0' : Nat → Option vv_E} (h : rlI ad a h0 P v9 v10 v11 T) (hs : sub h0 h0') : rlI ad a h0' P v9 v10 v11 T := by
  rcases h with h3 | ⟨c9, l10, e10, l11, e11, RI, loI, nI', AI, SI, gA, gS, b1, b2, b3, b4, b5, b6, b7, b8, b9, b10, b11⟩
  · exact Or.inl h3
  · exact Or.inr ⟨c9, l10, e10, l11, e11, RI, loI, nI', AI, SI, gA, gS, b1, b2, b3, b4.up hs, b5, b6.up hs, b7.up hs, b8.up hs, b9.up hs, b10, b11⟩
/-- more is frozen, owners told anew -/
theorem Rl.mem {own' : Nat → Nat} {h0' : Nat → Option vv_E} (H : Rl ad hC a own h0 P R lo n A S tp i5 v9 v10 v11 sd σ T) (hM : rlM ad hC a own' h0' σ) (hs : sub h0 h0') : Rl ad hC a own' h0' P R lo n A S tp i5 v9 v10 v11 sd σ T := by
  obtain ⟨-, hX, hP, hc, hU, hT, hF, hA, hS, hI, hJ⟩ := H
  obtain ⟨cA, gA, q1, q2, q3⟩ := hA
  obtain ⟨cS, gS, s1, s2, s3⟩ := hS
  exact ⟨hM, hX, ⟨hP.1.up hs, hP.2⟩, hc, hU, hT, hF, ⟨cA, gA, q1, q2, q3.up hs⟩, ⟨cS, gS, s1, s2, s3.up hs⟩, hI.up hs, hJ⟩
/-- new cells alone -/
theorem Rl.al {c m : Nat} (H : Rl ad hC a own h0 P R lo n A S tp i5 v9 v10 v11 sd σ T) (f : fa (fun _ => False) c m σ σ') : Rl ad hC a own h0 P R lo n A S tp i5 v9 v10 v11 sd σ' T := by
  have hM := H.1
  have hU := H.2.2.2.2.1
  have f' : fa (fun q => (fun _ => False) (own q)) c m σ σ' := f
  obtain ⟨u, hu⟩ := H.2.2.2.1.1
  exact H.go (D := fun _ => False) f' (fun t h => h.elim) ⟨u, (f.2 _ hM.1.m0.2 id).trans hu⟩ (hU.k hM.1 (fa.kp (D := fun _ => False) (own := own) f' (by simp)) (fa.kp (D := fun _ => False) (own := own) f' (by simp))) jq.rf
/-- what lies from b on, so long, is frozen -/
def exH (h0 : Nat → Option vv_E) (σ : vv_S) (b e : Nat) : Nat → Option vv_E := fun q => if b ≤ q ∧ q < e then σ.1 q else h0 q
def exO (own : Nat → Nat) (b : Nat) : Nat → Nat := fun q => if q < b then own q else 0
theorem ex_s {b e N : Nat} (hf : frz h0 own N) (hb : N ≤ b) : sub h0 (exH h0 σ b e) := fun q w he => by
  unfold exH
  rw [if_neg (by have := (hf q w he).2; omega)]
  exact he
theorem rlM.ex {b e : Nat} (hM : rlM ad hC a (exO own b) h0 σ) (he : e ≤ σ.2.1) (hf : ∀ q, b ≤ q → h0 q = none) : rlM ad hC a (exO own b) (exH h0 σ b e) σ := by
  obtain ⟨h1, h2, h3, h4, h5⟩ := hM
  have hs : sub h0 (exH h0 σ b e) := fun q w hw => by
    unfold exH
    by_cases hq : b ≤ q
    · rw [hf q hq] at hw; cases hw
    · rw [if_neg (by omega)]; exact hw
  refine ⟨h1, fun q w hw => ?_, fun q w hw => ?_, h4.tr hs, h5⟩
  · unfold exH at hw
    by_cases hq : b ≤ q ∧ q < e
    · exact ⟨by unfold exO; rw [if_neg (by omega)], by omega⟩
    · rw [if_neg hq] at hw; exact h2 q w hw
  · unfold exH at hw
    by_cases hq : b ≤ q ∧ q < e
    · rw [if_pos hq] at hw; exact hw
    · rw [if_neg hq] at hw; exact h3 q w hw
theorem rlM.eo (hM : rlM ad hC a own h0 σ) : rlM ad hC a (exO own σ.2.1) h0 σ := by
  obtain ⟨h1, h2, h3, h4, h5⟩ := hM
  refine ⟨fun k q a1 a2 a3 => ?_, fun q w hw => ?_, h3, h4, h5⟩
  · have h9 := h1 k q a1 a2 a3
    unfold exO
    rw [if_pos h9.2]
    exact h9
  · have h9 := h2 q w hw
    unfold exO
    rw [if_pos h9.2]
    exact h9
/-- a list's array has another place -/
theorem okO.lst {N N' e' : Nat} {own' : Nat → Nat} {j : Nat} (h : okO ad a own N) (hj : j = 17 ∨ j = 18) (hN : N ≤ N') (ho : ∀ q, q < N → own' q = own q) (he : ¬ (e' = ad 0 ∨ e' = ad 1) → own' e' = j + 1 ∧ e' < N') : okO ad (upA a j e') own' N' := by
  intro k q h1 h2 h3
  by_cases hk : k = j
  · subst hk
    have e1 : upA a k e' k = e' := by unfold upA; rw [if_pos rfl]
    have e2 : q = e' := by
      unfold rg at h3
      rw [if_neg (by omega), if_neg (by omega), e1] at h3
      exact h3
    rw [e2]
    refine he fun z => ?_
    have h4 := h2 hj
    rw [e1] at h4
    exact z.elim h4.1 h4.2
  · have e1 : upA a j e' k = a k := by unfold upA; rw [if_neg hk]
    have h4 : rg a k q := by
      unfold rg at h3 ⊢
      rw [e1] at h3
      exact h3
    have h5 := h k q h1 (fun z => by have h6 := h2 z; rw [e1] at h6; exact h6) h4
    exact ⟨(ho q h5.2).trans h5.1, by omega⟩
/-- the row changes -/
theorem Rl.row {R' : Nat → Int32} {lo' : Int32} {c m : Nat} (H : Rl ad hC a own h0 P R lo n A S tp i5 v9 v10 v11 sd σ T) (f : fa (fun q => own q = 1 ∨ own q = 3) c m σ σ') (hv : okV σ' (a 0)) (hc' : isCo σ' (a 20) (a 2) R' lo') (hi : invR P R') (r : isRw T' 0 R') (g : jz T T') : Rl ad hC a own h0 P R' lo' n A S tp i5 v9 v10 v11 sd σ' T' := by
  obtain ⟨hM, hX, hP, hc, hU, hT, hF, hA, hS, hI, hJ⟩ := H
  have f' : fa (fun q => (fun t => t = 1 ∨ t = 3) (own q)) c m σ σ' := f
  have kp : ∀ t, ¬ (t = 1 ∨ t = 3) → Kp own t σ σ' := fun t ht => fa.kp (D := fun t => t = 1 ∨ t = 3) (own := own) f' ht
  have hM' := hM.k (D := fun t => t = 1 ∨ t = 3) f' (by simp)
  exact ⟨hM', (kp 21 (by omega) _ hM.1.m20.2 hM.1.m20.1).trans hX, hP, ⟨hv, hc', hi⟩, hU.k hM.1 (kp 13 (by omega)) (kp 14 (by omega)), hT.k hM.1 (kp 4 (by omega)) (g.2 8 (by omega)), hF.k hM.1 (kp 7 (by omega)) (g.2 9 (by omega)), hA.k hM hM' (kp 8 (by omega)) (kp 18 (by omega)), hS.k hM hM' (kp 9 (by omega)) (kp 19 (by omega)), hI.k (fun k h1 h2 => g.1 k (by omega)) (fun r h1 h2 => g.2 r (by omega)) (g.1 1 (by omega)) (g.1 3 (by omega)), hJ.z g r⟩
end RK
