/-! the plain law: a whole expression -/
set_option maxRecDepth 100000
section NX
variable {hS : Nat → Option vv_E} {ad : Nat → Nat} {x : txT} {r b : Nat} {c : Nat × Nat × Nat × Nat} {σ σ' : vv_S} {T : tw_T}
theorem NT_all (CX : cxK hS ad x r c) : ∀ j a : Nat, a + j = 5 → NT hS x r c 1 (-76) (-11) (8 + 500 * ((j : Int) + 1)) (2 + 100 * ((j : Int) + 1)) (1 + 11 * (j + 1)) (a + 1) (a + 1) (KexC (KX5_expN ad (j + 2)) ad r (nI a)) (PO a) := by
  have up : ∀ (j a : Nat) (E Ec : Int) (D : Nat), a + j = 5 → 8 ≤ E → 2 ≤ Ec → 1 ≤ D → (a + 1 < 6 → NT hS x r c 1 (-76) (-11) E Ec D (a + 1 + 1) (a + 1 + 1) (KexC (KX5_expN ad (j + 1)) ad r (nI (a + 1))) (PO (a + 1))) → NT hS x r c 1 (-76) (-11) (E + 500) (Ec + 100) (D + 11) (a + 1) (a + 1) (KexC (KX5_expN ad (j + 2)) ad r (nI a)) (PO a) := by
    intro j a E Ec D ha hE hEc hD H
    have h1 := NT_part (ex := KX5_expN ad (j + 2)) (ex' := KX5_expN ad (j + 1)) (a := a) (d := a + 1) CX hE hEc hD (by omega) rfl (fun _ => rfl) H
    have h2 := NT_product CX h1
    have h3 := NT_sum CX h2
    have h4 := NT_not CX (by omega) (by omega) (by omega) (by omega) h3
    have h5 := NT_and CX (by omega) h4
    have h6 := NT_or CX (by omega) h5
    have e1 : E + 100 + 100 + 100 + 100 + 100 = E + 500 := by omega
    have e2 : Ec + 20 + 20 + 20 + 20 + 20 = Ec + 100 := by omega
    have e3 : D + 1 + 1 + 7 + 1 + 1 = D + 11 := by omega
    rw [e1, e2, e3] at h6
    exact h6
  intro j
  induction j with
  | zero =>
    intro a ha
    exact up 0 a 8 2 1 ha (by omega) (by omega) (by omega) (fun h => by omega)
  | succ j ih =>
    intro a ha
    have h := up (j + 1) a (8 + 500 * ((j : Int) + 1)) (2 + 100 * ((j : Int) + 1)) (1 + 11 * (j + 1)) ha (by omega) (by omega) (by omega) (fun _ => ih (a + 1) (by omega))
    have e1 : (8 + 500 * ((j : Int) + 1)) + 500 = 8 + 500 * (((j + 1 : Nat) : Int) + 1) := by omega
    have e2 : (2 + 100 * ((j : Int) + 1)) + 100 = 2 + 100 * (((j + 1 : Nat) : Int) + 1) := by omega
    have e3 : (1 + 11 * (j + 1)) + 11 = 1 + 11 * (j + 1 + 1) := by omega
    rw [e1, e2, e3] at h
    exact h
/-- a whole expression, both -/
theorem EX (CX : cxK hS ad x r c) (hp : pK hS x r c σ b) (hx : txJ T x) (ht : tkJ T x b) (h14 : T.1 14 = 0) (h29 : T.1 29 = nI 0) (hb : 4 ≤ b) :
    (∃ κ b', b ≤ b' ∧ b' ≤ x.1 ∧ kErr hS x r c 3100 700 σ b κ b' (KX5_expT ad r (nI 0) σ) ∧ jEnd T κ b' (J_expression T)) ∨
    ∃ f σ' b' ev T', KX5_expT ad r (nI 0) σ = some (.inl (f, σ')) ∧ pK hS x r c σ' b' ∧ fK r σ σ' ∧ cst (-76) (-11) b b' σ σ' ∧ isFr σ'.1 σ.2.1 σ'.2.1 f 67 ev ∧ sx ev ∧ b < b' ∧ J_expression T = some T' ∧ txJ T' x ∧ tkJ T' x b' ∧ T'.1 14 = 0 ∧ jE T T' ∧ ∀ T1 : tw_T, T1.2.2 7 = T'.2.2 17 → ∃ g, J_reckons (nI 0) T1 = some (ev (T1.2.2 22), tw_A T1 23 g) := by
  have hx7 := CX.1.1
  have hbx := hp.2.2.2.1
  obtain ⟨T4, hT4⟩ : ∃ τ : tw_T, τ = tw_F (tw_F T 30 (nI 0)) 31 (nI 0) := ⟨_, rfl⟩
  have f4 : jE T T4 := by rw [hT4]; exact (jE.F (by omega)).tr (jE.F (by omega))
  have hj : jC T4 x b 0 [] [] := by
    rw [hT4]
    exact ⟨hx.e ((jE.F (by omega)).tr (jE.F (by omega))), (ht.F (by omega)).F (by omega), (F_n (by omega)).trans ((F_n (by omega)).trans h14), (F_n (by omega)).trans ((F_n (by omega)).trans h29), fun i hi => (Nat.not_lt_zero i hi).elim, (F_n (by omega)).trans F_s, fun i hi => (Nat.not_lt_zero i hi).elim, F_s⟩
  have hg : J_isGood T = some (nI 1, T) := by
    unfold J_isGood J_isGood_12
    rw [h14, if_pos rfl, zr1]
    rfl
  have eJ : J_expression T = ((J_deeper T4).bind fun r4 => J_operand_4 NN (nI 1) (nI 1) r4).bind fun r => J_expression_29 NN (nI 1) r := by
    unfold J_expression J_operand
    rw [hg, bdS, if_neg s1_ne, bdS, bdS, ← hT4]
    cases J_deeper T4 <;> rfl
  have eK : KX5_expT ad r (nI 0) σ = KX5_expression (KX5_expN ad 7) ad r (nI 0) σ := rfl
  rw [eJ, eK]
  rcases NT_ex (a := 0) (n := NN) (m := NN) (D := 67) (E := 3008) (Ec := 602) CX (by omega) (fun _ => NT_all CX 5 0 rfl) (by omega) (by omega) hp hj (by unfold bnd; simp only [List.length_nil]; omega) (fun W1 o e => by
    have := congrArg List.length e
    simp at this) (fun o ho => (List.not_mem_nil ho).elim) (by unfold NN; omega) (by unfold NN; omega) with ⟨κ, b', q1, q2, ⟨q, σ', w1, w2, w3, w4, w5, w6, w7, w8⟩, q4⟩ | ⟨f, σ2, b2, ev, code, C2, Q2, T2, m2, q1, q2, q3, q4, q7, q8, q9, q10, q11, q12, q13, q14, q15, q16, q17, q18, q19⟩
  · exact Or.inl ⟨κ, b', q1, q2, ⟨q, σ', w1, w2, w3, w4, w5, w6, by omega, by omega⟩, q4.tr f4⟩
  · have hb2 := q2.2.2.2.1
    rw [List.nil_append] at q12 q16 q14
    obtain ⟨B1, B2⟩ := id q16
    obtain ⟨m2, rfl⟩ : ∃ z, m2 = z + 2 := ⟨m2 - 2, by omega⟩
    have hQ0 : okQ 0 Q2 := q13.mo (Nat.zero_le _)
    have hcl : (C2 ++ Q2.reverse.map nI).length = C2.length + Q2.length := by rw [List.length_append, List.length_map, List.length_reverse]
    have hcode : C2 ++ Q2.reverse.map nI = code := q14
    obtain ⟨T3, s3, j3, k3, u3⟩ := jC.drop (W0 := []) (ℓ := 0) q12 hQ0 (fun W1 o e => by
      have := congrArg List.length e
      simp at this) (fun o ho => (List.not_mem_nil ho).elim) (by omega) (by omega) (by rw [List.nil_append]; omega)
    obtain ⟨T5, s5, j5, k5, u5⟩ := j3.put (by omega) (nI 0)
    rw [hcode] at j5 hcl
    refine Or.inr ⟨f, σ2, b2, ev, T5, q1, q2, q3, q4, q7, q8, q9, ?_, j5.1, j5.2.1, j5.2.2.1, (f4.tr q19).tr (k3.tr k5), fun T1 h7 => ?_⟩
    · rw [q10, L_end q12 (by omega) q17 (fun o ho => by have := q13 o ho; omega) (by omega) (fun _ j hj => by
        have : Q2.getD j 0 ∈ Q2 := by
          rw [List.getD_eq_getElem?_getD, List.getElem?_eq_getElem hj]
          exact List.getElem_mem _
        exact (q13 _ this).1.2)]
      unfold J_expression_325 J_expression_345
      rw [q12.gd, bdS, if_neg s1_ne, q12.2.2.2.2.2.2.2, if_pos (nI_le (Nat.le_refl 1) (by omega)), s3, bdS, s5, bdS]
    · have j5' := j5.2.2.2.2.1
      have hl : (code ++ [nI 0]).length = code.length + 1 := by rw [List.length_append]; rfl
      refine J_rk q15 (fun i hi => ?_) ?_ (by omega)
      · rw [h7, j5' i (by omega), gd_l hi]
      · rw [h7, j5' code.length (by omega)]
        exact gd_r (C1 := code) (C2 := [nI 0]) (i := 0)
end NX
