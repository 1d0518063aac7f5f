/-! the plain law: parts -/
set_option maxRecDepth 100000
section PA
variable {hS : Nat → Option vv_E} {ad : Nat → Nat} {x : txT} {r b a d : Nat} {c : Nat × Nat × Nat × Nat} {σ σ' : vv_S} {T : tw_T} {ex ex' : Nat → Int32 → vv_S → Option (hX (Nat × vv_S))} {E Ec : Int} {D : Nat} {C : List Int32} {W Q : List Nat}
theorem kwant1 {k : Int32} : KX5_want r (nI 1) k σ = some (.inl σ) := by
  unfold KX5_want
  rw [if_neg s1_ne]
/-- thrown -/
theorem kwant0 (CX : cxK hS ad x r c) (h : pK hS x r c σ b) (κ : Nat) : ∃ σ', KX5_want r (nI 0) (nI κ) σ = some (.inr (("LuckCrates$Wrong", σ.2.1), σ')) ∧ pK hS x r c σ' b ∧ fK r σ σ' ∧ σ'.1 σ.2.1 = some (true, .inr (5, wrF κ)) ∧ σ'.2 = (σ.2.1 + 1, σ.2.2 + 7) := by
  have hr := h.2.2.1
  obtain ⟨σ1, hσ1⟩ : ∃ τ : vv_S, τ = nwO σ 5 [.null, .null, .null, .null, .null, .int 0, .int 0] 7 := ⟨_, rfl⟩
  have c1 : σ1.1 σ.2.1 = some (true, .inr (5, [.null, .null, .null, .null, .null, .int 0, .int 0])) := by rw [hσ1]; exact up_s
  obtain ⟨σ2, hσ2⟩ : ∃ τ : vv_S, τ = (vv_up σ1.1 σ.2.1 (true, .inr (5, [.null, .null, .null, .null, .null, .int 0, .int 0])), σ1.2) := ⟨_, rfl⟩
  have s2 : KJ3_init_2 σ.2.1 (nI 0) (nI 0) σ1 = some σ2 := by
    unfold KJ3_init_2
    rw [c1]
    show (if nI 0 = 0 ∧ nI 0 = 0 then _ else none) = _
    rw [if_pos ⟨nI_0, nI_0⟩, hσ2]
  have c2 : σ2.1 σ.2.1 = some (true, .inr (5, [.null, .null, .null, .null, .null, .int 0, .int 0])) := by rw [hσ2]; exact up_s
  obtain ⟨σ3, hσ3⟩ : ∃ τ : vv_S, τ = (vv_up σ2.1 σ.2.1 (true, .inr (5, wrF κ)), σ2.2) := ⟨_, rfl⟩
  have s3 : pF σ2 σ.2.1 5 6 (.int (nI κ)) = some σ3 := by rw [hσ3]; unfold pF; rw [c2]; rfl
  have c3 : σ3.1 σ.2.1 = some (true, .inr (5, wrF κ)) := by rw [hσ3]; exact up_s
  have o3 : isO σ3 σ.2.1 5 = some () := by unfold isO; rw [c3]; rfl
  have k3 : ∀ q, q < σ.2.1 → σ3.1 q = σ.1 q := fun q hq => by
    rw [hσ3]
    refine (up_n (by omega)).trans ?_
    rw [hσ2]
    refine (up_n (by omega)).trans ?_
    rw [hσ1]
    exact up_n (by omega)
  have z3 : σ3.2 = (σ.2.1 + 1, σ.2.2 + 7) := by rw [hσ3, hσ2, hσ1]; rfl
  have f3 : fK r σ σ3 := ⟨by rw [z3]; exact Nat.le_succ _, fun q h1 _ => k3 q h1⟩
  refine ⟨σ3, ?_, h.k CX.2.2.1 f3 (h.2.2.2.k (k3 r hr)), f3, c3, z3⟩
  unfold KX5_want KX6_init KJ4_init_2
  rw [if_pos nI_0, bdS, ← hσ1]
  simp only [s2, s3, o3, bdS]
/-- an error at once -/
theorem kErr.mk {α : Type} (CX : cxK hS ad x r c) (h : pK hS x r c σ b) (κ : Nat) {σ0 : vv_S} {b0 : Nat} (hf : fK r σ0 σ) (hc : cst (7 - E) (1 - Ec) b0 b σ0 σ) {f : vv_S → Option (hX α)} : kErr hS x r c E Ec σ0 b0 κ b ((KX5_want r (nI 0) (nI κ) σ).bind fun r1 => xb r1 f) := by
  obtain ⟨σ', s1, p1, f1, c1, z1⟩ := kwant0 CX h κ
  obtain ⟨c2, c3, c4⟩ := hc
  refine ⟨σ.2.1, σ', by rw [s1, bdS, xbR], p1, hf.tr f1, c1, hf.1, ?_, ?_, ?_⟩
  · rw [z1]; dsimp only; omega
  · rw [z1]; dsimp only; omega
  · rw [z1]; dsimp only; omega
theorem ki_3S {k : Nat} (h : isS x b k) : kiT x b = 3 := h.1
/-- an expression's first two questions -/
theorem K_ex1 (CX : cxK hS ad x r c) (h : pK hS x r c σ b) (ht : kiT x b = 2 ∨ kiT x b = 1 ∨ isS x b 40) (ha : a < 6) : KX5_expression ex ad r (nI a) σ = KexC ex ad r (nI a) σ := by
  obtain ⟨-, u, -, -, h4⟩ := id h.2.2.2
  have e26 : KX5_expression_26 ex ad r r (nI a) σ = KexC ex ad r (nI a) σ := by
    unfold KX5_expression_26 KX5_expression_31 KX5_expression_47 KexC
    rw [h.o, bdS, kwant1, bdS, xbL, if_neg (nI_ge ha (by omega)), h.o, bdS, kwant1, bdS, xbL]
  have h4' : kiT x b ≤ 4 := ki_4'
  unfold KX5_expression
  rw [r_g5 h4, bdS]
  by_cases h2 : kiT x b = 2
  · rw [if_pos (by rw [h2])]; exact e26
  · rw [if_neg (fun z => h2 ((nI_eq (by omega) (by omega)).mp z)), bdS]
    by_cases h1 : kiT x b = 1
    · rw [if_pos (by rw [h1])]; exact e26
    · rw [if_neg (fun z => h1 ((nI_eq (by omega) (by omega)).mp z)), h.o, bdS]
      have h40 : isS x b 40 := by
        rcases ht with z | z | z
        · exact absurd z h2
        · exact absurd z h1
        · exact z
      rw [ksg_1 CX h (by omega) h40, bdS, if_neg s1_ne]
      exact e26
theorem K_ex0 (CX : cxK hS ad x r c) (h : pK hS x r c σ b) (ht : ¬ (kiT x b = 2 ∨ kiT x b = 1 ∨ isS x b 40)) {y : Int32} : ∃ f, KX5_expression ex ad r y σ = (KX5_want r (nI 0) (nI 1) σ).bind fun r1 => xb r1 f := by
  obtain ⟨-, u, -, -, h4⟩ := id h.2.2.2
  have h4' : kiT x b ≤ 4 := ki_4'
  unfold KX5_expression
  rw [r_g5 h4, bdS, if_neg (fun z => ht (Or.inl ((nI_eq (by omega) (by omega)).mp z))), bdS, if_neg (fun z => ht (Or.inr (Or.inl ((nI_eq (by omega) (by omega)).mp z)))), h.o, bdS, ksg_0 CX h (by omega) (fun z => ht (Or.inr (Or.inr z))), bdS, if_pos nI_0]
  unfold KX5_expression_31
  rw [h.o, bdS]
  exact ⟨_, rfl⟩
theorem K_ex6 (CX : cxK hS ad x r c) (h : pK hS x r c σ b) (ht : kiT x b = 2 ∨ kiT x b = 1 ∨ isS x b 40) (ha : 6 ≤ a) (ha2 : a < 100) : ∃ f, KX5_expression ex ad r (nI a) σ = (KX5_want r (nI 0) (nI 2) σ).bind fun r1 => xb r1 f := by
  obtain ⟨-, u, -, -, h4⟩ := id h.2.2.2
  have h4' : kiT x b ≤ 4 := ki_4'
  have e26 : ∃ f, KX5_expression_26 ex ad r r (nI a) σ = (KX5_want r (nI 0) (nI 2) σ).bind fun r1 => xb r1 f := by
    unfold KX5_expression_26 KX5_expression_31
    rw [h.o, bdS, kwant1, bdS, xbL, if_pos (nI_le ha (by omega))]
    unfold KX5_expression_47
    rw [h.o, bdS]
    exact ⟨_, rfl⟩
  unfold KX5_expression
  rw [r_g5 h4, bdS]
  by_cases h2 : kiT x b = 2
  · rw [if_pos (by rw [h2])]; exact e26
  · rw [if_neg (fun z => h2 ((nI_eq (by omega) (by omega)).mp z)), bdS]
    by_cases h1 : kiT x b = 1
    · rw [if_pos (by rw [h1])]; exact e26
    · rw [if_neg (fun z => h1 ((nI_eq (by omega) (by omega)).mp z)), h.o, bdS]
      have h40 : isS x b 40 := by
        rcases ht with z | z | z
        · exact absurd z h2
        · exact absurd z h1
        · exact z
      rw [ksg_1 CX h (by omega) h40, bdS, if_neg s1_ne]
      exact e26
/-- a number, as the component reads it -/
theorem K_num (CX : cxK hS ad x r c) (h : pK hS x r c σ b) {lo hi : Nat} (hl : lo < 20000) (hh : hi < 20000) : (kiT x b = 2 ∧ enT x b - b ≤ 4 ∧ lo ≤ vlT x b (enT x b - b) ∧ vlT x b (enT x b - b) ≤ hi ∧ KX5_numberNow r (nI lo) (nI hi) σ = some (.inl (nI (vlT x b (enT x b - b)), σ))) ∨ (∃ κ, (kiT x b ≠ 2 ∧ κ = 1 ∨ kiT x b = 2 ∧ κ = 2 ∧ (4 < enT x b - b ∨ vlT x b (enT x b - b) < lo ∨ hi < vlT x b (enT x b - b))) ∧ ∃ f, KX5_numberNow r (nI lo) (nI hi) σ = (KX5_want r (nI 0) (nI κ) σ).bind fun r1 => xb r1 f) := by
  obtain ⟨hb, u, hu, hv, h4⟩ := id h.2.2.2
  have h4' : kiT x b ≤ 4 := ki_4'
  have he := en_b hb
  have h7 := CX.1.1
  unfold KX5_numberNow
  rw [r_g5 h4, bdS]
  by_cases h2 : kiT x b = 2
  · rw [if_pos (by rw [h2])]
    unfold KX5_numberNow_14
    rw [h.o, bdS, kwant1, bdS, xbL, r_g7 h4, bdS, r_g6 h4, bdS, pk_sub he.1]
    by_cases hl4 : enT x b - b ≤ 4
    · have hu' := hv h2 hl4
      rw [if_neg (nI_nlt hl4 (by omega)), r_g8 h4, bdS]
      by_cases c1 : u < lo
      · rw [if_pos (nI_lt c1 (by omega))]
        refine Or.inr ⟨2, Or.inr ⟨h2, rfl, Or.inr (Or.inl (by rw [← hu']; exact c1))⟩, ?_⟩
        unfold KX5_numberNow_52 KX5_numberNow_53
        rw [h.o, bdS]
        exact ⟨_, rfl⟩
      · rw [if_neg (nI_nlt (by omega) (by omega)), bdS]
        by_cases c2 : hi < u
        · rw [if_pos (nI_lt c2 (by omega))]
          refine Or.inr ⟨2, Or.inr ⟨h2, rfl, Or.inr (Or.inr (by rw [← hu']; exact c2))⟩, ?_⟩
          unfold KX5_numberNow_52 KX5_numberNow_53
          rw [h.o, bdS]
          exact ⟨_, rfl⟩
        · rw [if_neg (nI_nlt (by omega) (by omega))]
          unfold KX5_numberNow_53
          rw [h.o, bdS, kwant1, bdS, xbL, r_g8 h4, bdS]
          exact Or.inl ⟨h2, hl4, by omega, by omega, by rw [← hu']⟩
    · rw [if_pos (nI_lt (by omega) (by omega))]
      refine Or.inr ⟨2, Or.inr ⟨h2, rfl, Or.inl (by omega)⟩, ?_⟩
      unfold KX5_numberNow_52 KX5_numberNow_53
      rw [h.o, bdS]
      exact ⟨_, rfl⟩
  · rw [if_neg (fun z => h2 ((nI_eq (by omega) (by omega)).mp z))]
    refine Or.inr ⟨1, Or.inl ⟨h2, rfl⟩, ?_⟩
    unfold KX5_numberNow_14
    rw [h.o, bdS]
    exact ⟨_, rfl⟩
end PA
