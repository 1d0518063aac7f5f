/-! the plain law: a part, both -/
set_option maxRecDepth 100000
section PT
variable {hS : Nat → Option vv_E} {ad : Nat → Nat} {x : txT} {r b a d n m : Nat} {c : Nat × Nat × Nat × Nat} {σ σ' : vv_S} {T : tw_T} {ex ex' : Nat → Int32 → vv_S → Option (hX (Nat × vv_S))} {E Ec : Int} {D : Nat} {C : List Int32} {W Q : List Nat}
/-- a number's part -/
theorem pt_n (CX : cxK hS ad x r c) (hE : 8 ≤ E) (hEc : 2 ≤ Ec) (hD : 1 ≤ D) (hp : pK hS x r c σ b) (hj : jC T x b d C W) (hB : bnd C W b) (hm : x.1 + 3 ≤ m + b) (h2 : kiT x b = 2) {x2 : Int32} : ntR hS x r c 7 99 14 E Ec D (d + 1) d σ T b C W (KX5_part ex ad r (nI a) σ) ((J_operand_75 (J_operand_4 (n + 1)) x2 T).bind fun r => J_expression_29 m (nI 1) r) := by
  have hx7 := CX.1.1
  have hbx := hp.2.2.2.1
  have hr := hp.2.2.1
  obtain ⟨b1, b2⟩ := id hB
  obtain ⟨-, u, -, -, h4⟩ := id hp.2.2.2
  have n40 : ¬ isS x b 40 := fun z => by have := z.1; omega
  obtain ⟨m, rfl⟩ : ∃ z, m = z + 1 := ⟨m - 1, by omega⟩
  obtain ⟨σ1, hσ1⟩ : ∃ τ : vv_S, τ = nwO σ 8 [.int 0] 1 := ⟨_, rfl⟩
  have c1 : σ1.1 σ.2.1 = some (true, .inr (8, [.int 0])) := by rw [hσ1]; exact up_s
  have n1 : ∀ q, q < σ.2.1 → σ1.1 q = σ.1 q := fun q hq => by rw [hσ1]; exact up_n (by omega)
  have z1 : σ1.2 = (σ.2.1 + 1, σ.2.2 + 1) := by rw [hσ1]; rfl
  have z1' : σ1.2.1 = σ.2.1 + 1 := by rw [z1]
  have z1'' : σ1.2.2 = σ.2.2 + 1 := by rw [z1]
  have f1 : fK r σ σ1 := ⟨by omega, fun q h1 _ => n1 q h1⟩
  have hp1 : pK hS x r c σ1 b := hp.k CX.2.2.1 f1 (hp.2.2.2.k (n1 r hr))
  have eP : KX5_part ex ad r (nI a) σ = (KX5_number ad r (nI 0) (nI 9999) σ1).bind fun r21 => xb r21 fun r23 => (KX9_init σ.2.1 r23.1 r23.2).bind fun r24 => some (.inl (σ.2.1, r24)) := by
    unfold KX5_part
    rw [r_g5 h4, bdS, if_pos (by rw [h2]), bdS, ← hσ1, hp1.o, bdS]
  have eN : KX5_number ad r (nI 0) (nI 9999) σ1 = (KX5_numberNow r (nI 0) (nI 9999) σ1).bind fun r1 => xb r1 fun r3 => (isO r3.2 r 4).bind fun _ => (KX5_next ad r r3.2).bind fun r4 => some (.inl (r3.1, r4)) := by
    unfold KX5_number
    rw [hp1.o, bdS]
  rcases K_num CX hp1 (lo := 0) (hi := 9999) (by omega) (by omega) with ⟨-, l4, -, -, e⟩ | ⟨κ, hκ, f, e⟩
  · obtain ⟨σ2, s2, p2, g2⟩ := hp1.nx CX
    have c2 : σ2.1 σ.2.1 = some (true, .inr (8, [.int 0])) := (g2.2 _ (show ¬ σ.2.1 = r by omega)).trans c1
    obtain ⟨σ3, s3, c3, z3, o3⟩ := nw1 (v := .int (nI (vlT x b (enT x b - b)))) c2
    have z3' : σ3.2 = (σ.2.1 + 1, σ.2.2 + 1) := by rw [z3, g2.1, z1]
    have z3a : σ3.2.1 = σ.2.1 + 1 := by rw [z3']
    have z3b : σ3.2.2 = σ.2.2 + 1 := by rw [z3']
    have hlt : b < x.1 := by
      by_cases hl : x.1 ≤ b
      · rw [ki_0 hl] at h2; omega
      · omega
    have hnx := (nx_b hbx).2.2 hlt
    have f3 : fK r σ σ3 := ⟨by omega, fun q q1 q2 => by rw [o3 q (by omega), g2.2 q q2, n1 q q1]⟩
    obtain ⟨T1, t1, j1, k1, k2⟩ := J_pn1 hj h2 l4 (by omega)
    refine Or.inr ⟨σ.2.1, σ3, nxT x b, _, [nI 1, nI (vlT x b (enT x b - b))], C ++ [nI 1, nI (vlT x b (enT x b - b))], [], T1, m + 1, ?_, ?_, f3, ⟨by omega, by omega, by omega⟩, (fr_8 c3 ⟨Nat.le_refl _, by omega⟩).mo (Nat.le_refl _) (Nat.le_refl _) (fun _ _ _ => rfl) hD, fun _ _ _ => rfl, hnx, ?_, by omega, by rw [List.append_nil]; exact j1, fun o ho => (List.not_mem_nil ho).elim, by simp, cd_num, ?_, ⟨fun z => by omega, fun z => by omega, fun z => by omega, fun z => by omega, fun z => by omega⟩, fun i _ => by rw [k2], k1⟩
    · rw [eP, eN, e, bdS, xbL]
      dsimp only
      rw [hp1.o, bdS, s2, bdS, bdS, xbL]
      dsimp only
      unfold KX9_init
      rw [s3, bdS, bdS]
    · exact hp.k CX.2.2.1 f3 (p2.2.2.2.k (o3 r (by omega)))
    · rw [J_75p hj n40, t1, bdS]
    · have h9 : (C ++ [nI 1, nI (vlT x b (enT x b - b))]).length = C.length + 2 := by rw [List.length_append]; rfl
      unfold bnd
      rw [List.append_nil, h9]
      omega
  · have hl4 : 4 < enT x b - b := by
      rcases hκ with ⟨z, -⟩ | ⟨-, -, z⟩
      · exact absurd h2 z
      · rcases Nat.lt_or_ge 4 (enT x b - b) with z1 | z1
        · exact z1
        · have v1 := vl_lt (x := x) (b := b) (enT x b - b) (fun q q1 q2 => by
            have he : enT x b = ru isDi x b := by unfold enT; rw [if_neg (by omega), if_neg (by omega), if_pos h2]
            have := ru_al (f := isDi) hbx q q1 (by omega)
            exact this)
          have v2 : (10 : Nat) ^ (enT x b - b) ≤ 10 ^ 4 := Nat.pow_le_pow_right (by omega) z1
          have v3 : (10 : Nat) ^ 4 = 10000 := rfl
          omega
    have hκ2 : κ = 2 := by
      rcases hκ with ⟨z, -⟩ | ⟨-, z, -⟩
      · exact absurd h2 z
      · exact z
    subst hκ2
    obtain ⟨T1, t1, x1, k1⟩ := J_pn0 hj h2 hl4 (by omega) (by omega)
    refine Or.inl ⟨2, b, Nat.le_refl _, hbx, ?_, ?_⟩
    · rw [eP, eN, e]
      have h9 := (kErr.mk (E := E) (Ec := Ec) CX hp1 2 (σ0 := σ) (b0 := b) f1 ⟨by omega, by omega, by omega⟩ (f := f)).bd (f := fun r3 => (isO r3.2 r 4).bind fun _ => (KX5_next ad r r3.2).bind fun r4 => some (.inl (r3.1, r4)))
      exact h9.bd
    · rw [J_75p hj n40, t1, bdS]
      exact (x1.L (by omega)).tr k1
end PT
