/-! the plain law: nots, both -/
set_option maxRecDepth 100000
section NP
variable {hS : Nat → Option vv_E} {ad : Nat → Nat} {x : txT} {r b a d n m k : Nat} {c : Nat × Nat × Nat × Nat} {σ σ' : vv_S} {T : tw_T} {ex ex' : Nat → Int32 → vv_S → Option (hX (Nat × vv_S))} {E Ec : Int} {D : Nat} {C : List Int32} {W Q : List Nat}
theorem nt_lp (CX : cxK hS ad x r c) (hd : d < 9) (ha : a < 6) (hE : 8 ≤ E) (hEc : 2 ≤ Ec) (H5 : NT hS x r c 5 29 4 E Ec D (d + 1) d (KX5_sum ex ad r (nI a)) (PP a)) {σ0 : vv_S} {T0 : tw_T} {b0 : Nat} (hp0 : pK hS x r c σ0 b0) (hL : low 3 W) (hW : ∀ o ∈ W, o < 100) (h30 : T0.2.2 19 d = nI 0) (hn : 20 ≤ n + a) : ∀ (j k N M : Nat) (σ : vv_S) (T : tw_T) (b : Nat), k + j = 6 → j + 1 < N → j + 2 < M → σ.2 = σ0.2 → fK r σ0 σ → b0 + 3 * k ≤ b → pK hS x r c σ b → jC T x b d C (W ++ List.replicate k 3) → bnd C (W ++ List.replicate k 3) b → T.2.2 19 = T0.2.2 19 → jE T0 T → x.1 + 3 ≤ m + b → ntR hS x r c 3 (-6) (-1) (E + 100) (Ec + 20) (D + 7) d d σ0 T0 b0 C W (KX5_not_2 ex ad N r (nI a) (nI k) σ) ((J_operand_18 (J_operand_4 n) M (nI 1) (nI k) T).bind fun r => J_expression_29 m (nI 1) r) := by
  intro j
  have hx7 := CX.1.1
  obtain ⟨n, rfl⟩ : ∃ z, n = z + 1 := ⟨n - 1, by omega⟩
  have no : ∀ (k N M : Nat) (σ : vv_S) (T : tw_T) (b : Nat), k ≤ 6 → 1 < N → 1 < M → σ.2 = σ0.2 → fK r σ0 σ → b0 + 3 * k ≤ b → pK hS x r c σ b → jC T x b d C (W ++ List.replicate k 3) → bnd C (W ++ List.replicate k 3) b → T.2.2 19 = T0.2.2 19 → jE T0 T → x.1 + 3 ≤ m + b → ¬ isW x b 14 → ntR hS x r c 3 (-6) (-1) (E + 100) (Ec + 20) (D + 7) d d σ0 T0 b0 C W (KX5_not_2 ex ad N r (nI a) (nI k) σ) ((J_operand_18 (J_operand_4 (n + 1)) M (nI 1) (nI k) T).bind fun r => J_expression_29 m (nI 1) r) := by
    intro k N M σ T b hk hN hM hz hf hbk hp hj hB ht hje hm hw
    obtain ⟨N, rfl⟩ : ∃ z, N = z + 1 := ⟨N - 1, by omega⟩
    obtain ⟨M, rfl⟩ : ∃ z, M = z + 1 := ⟨M - 1, by omega⟩
    have eK : KX5_not_2 ex ad (N + 1) r (nI a) (nI k) σ = KnB ex ad r (nI a) (nI k) σ := by
      have s0 : KX5_is r (ad 23) σ = some (nI 0) := kis_0 CX hp (k := 14) (by omega) hw
      show BKX5_not_2 ex ad (KX5_not_2 ex ad N) r (nI a) (nI k) σ = _
      unfold BKX5_not_2
      rw [hp.o, bdS, s0, bdS, if_pos nI_0]
      rfl
    have eJ : J_operand_18 (J_operand_4 (n + 1)) (M + 1) (nI 1) (nI k) T = J_operand_75 (J_operand_4 (n + 1)) (nI 1) T := by
      obtain ⟨v, s1, h1, -⟩ := kw_0 hj
      show B_operand_18 (J_operand_4 (n + 1)) (J_operand_18 (J_operand_4 (n + 1)) M) (nI 1) (nI k) T = _
      unfold B_operand_18
      rw [hj.gd, bdS, if_neg s1_ne, if_neg s1_ne, s1, bdS, if_neg (h1 14 (by omega) hw)]
    rw [eK, eJ]
    exact nt_bd CX hd H5 hp0 hz hf hk hbk hp hj hB hL hW (by rw [ht]; exact h30) (fun i _ => by rw [ht]) hje hm hn
  induction j with
  | zero =>
    intro k N M σ T b hk hN hM hz hf hbk hp hj hB ht hje hm
    obtain rfl : k = 6 := by omega
    by_cases hw : isW x b 14
    · have hbx := hp.2.2.2.1
      obtain ⟨N, rfl⟩ : ∃ z, N = z + 1 := ⟨N - 1, by omega⟩
      obtain ⟨M, rfl⟩ : ∃ z, M = z + 2 := ⟨M - 2, by omega⟩
      obtain ⟨m, rfl⟩ : ∃ z, m = z + 1 := ⟨m - 1, by omega⟩
      obtain ⟨b1, b2⟩ := id hB
      have hza : σ.2.1 = σ0.2.1 := by rw [hz]
      have hzb : σ.2.2 = σ0.2.2 := by rw [hz]
      obtain ⟨T1, t1, x1, k1⟩ := hj.wrong (κ := 2) (by omega) (by omega) (by omega)
      refine Or.inl ⟨2, b, by omega, hbx, ?_, ?_⟩
      · have s1 : KX5_is r (ad 23) σ = some (nI 1) := kis_1 CX hp (k := 14) (by omega) hw
        have e : KX5_not_2 ex ad (N + 1) r (nI a) (nI 6) σ = (KX5_want r (nI 0) (nI 2) σ).bind fun r1 => xb r1 fun r3 => (isO r3 r 4).bind fun _ => (KX5_next ad r r3).bind fun r4 => KX5_not_2 ex ad N r (nI a) (nI 6 + nI 1) r4 := by
          show BKX5_not_2 ex ad (KX5_not_2 ex ad N) r (nI a) (nI 6) σ = _
          unfold BKX5_not_2 KX5_not_23
          rw [hp.o, bdS, s1, bdS, if_neg s1_ne, if_pos (nI_le (Nat.le_refl 6) (by omega)), bdS]
        rw [e]
        exact kErr.mk CX hp 2 hf ⟨by omega, by omega, by omega⟩
      · have eJ : J_operand_18 (J_operand_4 (n + 1)) (M + 2) (nI 1) (nI 6) T = some T1 := by
          show B_operand_18 (J_operand_4 (n + 1)) (J_operand_18 (J_operand_4 (n + 1)) (M + 1)) (nI 1) (nI 6) T = _
          unfold B_operand_18 J_operand_50
          rw [hj.gd, bdS, if_neg s1_ne, if_neg s1_ne, kw_1 hj (by omega) hw, bdS, if_pos rfl, if_pos rfl, t1, bdS, x1.gd, bdS, if_pos nI_0, x1.op18]
        rw [eJ, bdS]
        exact (x1.L (by omega)).tr (hje.tr k1)
    · exact no 6 N M σ T b (by omega) (by omega) (by omega) hz hf hbk hp hj hB ht hje hm hw
  | succ j ih =>
    intro k N M σ T b hk hN hM hz hf hbk hp hj hB ht hje hm
    by_cases hw : isW x b 14
    · have hbx := hp.2.2.2.1
      obtain ⟨N, rfl⟩ : ∃ z, N = z + 1 := ⟨N - 1, by omega⟩
      obtain ⟨M, rfl⟩ : ∃ z, M = z + 1 := ⟨M - 1, by omega⟩
      obtain ⟨b1, b2⟩ := id hB
      obtain ⟨σ1, s1, p1, f1⟩ := hp.nx CX
      obtain ⟨T1, t1, j1, k1, u1⟩ := hj.wait (by omega) 3
      obtain ⟨T2, t2, j2, k2, u2⟩ := j1.goes
      have hnx : b + 3 ≤ nxT x b := nx_w hw hbx
      have eW : W ++ List.replicate k 3 ++ [3] = W ++ List.replicate (k + 1) 3 := by rw [List.append_assoc, ← List.replicate_succ']
      rw [eW] at j2
      have eK : KX5_not_2 ex ad (N + 1) r (nI a) (nI k) σ = KX5_not_2 ex ad N r (nI a) (nI (k + 1)) σ1 := by
        have s9 : KX5_is r (ad 23) σ = some (nI 1) := kis_1 CX hp (k := 14) (by omega) hw
        show BKX5_not_2 ex ad (KX5_not_2 ex ad N) r (nI a) (nI k) σ = _
        unfold BKX5_not_2 KX5_not_23
        rw [hp.o, bdS, s9, bdS, if_neg s1_ne, if_neg (nI_ge (by omega) (by omega)), bdS, kwant1, bdS, xbL, hp.o, bdS, s1, bdS, nI_add]
      have eJ : J_operand_18 (J_operand_4 (n + 1)) (M + 1) (nI 1) (nI k) T = J_operand_18 (J_operand_4 (n + 1)) M (nI 1) (nI (k + 1)) T2 := by
        show B_operand_18 (J_operand_4 (n + 1)) (J_operand_18 (J_operand_4 (n + 1)) M) (nI 1) (nI k) T = _
        unfold B_operand_18 J_operand_50
        rw [hj.gd, bdS, if_neg s1_ne, if_neg s1_ne, kw_1 hj (by omega) hw, bdS, if_pos rfl, if_neg (fun z => by have := (nI_eq (by omega) (by omega)).mp z; omega), hj.gd, bdS, if_neg s1_ne, t1, bdS, t2, bdS, nI_add]
      rw [eK, eJ]
      refine ih (k + 1) N M σ1 T2 (nxT x b) (by omega) (by omega) (by omega) (f1.1.trans hz) (hf.tr (fK.fr f1)) (by omega) p1 j2 ?_ (by rw [u2, u1, ht]) (hje.tr (k1.tr k2)) (by omega)
      rw [← eW]
      unfold bnd
      simp only [List.length_append, List.length_cons, List.length_nil] at b1 b2 ⊢
      omega
    · exact no k N M σ T b (by omega) (by omega) (by omega) hz hf hbk hp hj hB ht hje hm hw
theorem NT_not (CX : cxK hS ad x r c) (hd : d < 9) (ha : a < 6) (hE : 8 ≤ E) (hEc : 2 ≤ Ec) (H5 : NT hS x r c 5 29 4 E Ec D (d + 1) d (KX5_sum ex ad r (nI a)) (PP a)) : NT hS x r c 3 (-6) (-1) (E + 100) (Ec + 20) (D + 7) d d (KX5_not ex ad r (nI a)) (PO a) := by
  rintro J σ T b C W m ⟨n, hn, rfl⟩ hp hj hB hL hW h30 hm
  dsimp only
  obtain ⟨n, rfl⟩ : ∃ z, n = z + 1 := ⟨n - 1, by omega⟩
  have e : J_operand_4 (n + 1) (nI 1) (nI 1) T = J_operand_18 (J_operand_4 n) NN (nI 1) (nI 0) T := by
    show B_operand_4 (J_operand_4 n) (nI 1) (nI 1) T = _
    unfold B_operand_4
    rw [if_neg s1_ne, hj.gd, bdS, if_neg s1_ne]
  rw [e]
  have eW : W ++ List.replicate 0 3 = W := by rw [show List.replicate 0 3 = ([] : List Nat) from rfl, List.append_nil]
  exact nt_lp CX hd ha hE hEc H5 hp hL hW (h30 (Nat.le_refl 3)) (by omega) 6 0 NN NN σ T b (by omega) (by unfold NN; omega) (by unfold NN; omega) rfl fK.rf (by omega) hp (by rw [eW]; exact hj) (by rw [eW]; exact hB) rfl jE.rf hm
end NP
