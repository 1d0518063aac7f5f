/-! the plain law: which town to look at next, the guesses -/
set_option maxRecDepth 100000
section NY
variable {σ : vv_S} {T : tw_T} {x0 pa va ca tc lu a B l r : Nat} {h0 : Nat → Option vv_E} {P : pvT} {R R0 : Nat → Int32} {lo : Int32} {f : Nat → Int32} {d : Nat} {S : seT} {ad : Nat → Nat}
theorem nwK {σ : vv_S} {k : Nat} (hk : k < 1000) : ∃ σ1, nwA σ .int (nI k) = some σ1 ∧ σ1.2 = (σ.2.1 + 1, σ.2.2 + k) ∧ σ1.1 σ.2.1 = some (true, .inl (.int, k, .inl (fun _ => 0))) ∧ ∀ q, q ≠ σ.2.1 → σ1.1 q = σ.1 q := by
  refine ⟨(vv_up σ.1 σ.2.1 (true, .inl (.int, k, .inl (fun _ => 0))), σ.2.1 + 1, σ.2.2 + k), ?_, rfl, vv_up_at, fun q hq => up_n hq⟩
  unfold nwA
  rw [if_neg (by rw [nI_clamp (by omega)]; intro h; rcases h with h | h; exact nI_pos (by omega) h; omega), nI_clamp (by omega)]
theorem K_cp (hne : x0 ≠ r) (hnl : lu ≠ r) (x1 x3 x4 : Int32) (k15 : Nat → Int32 → Nat → Int32 → vv_S → Option (hX (Int32 × vv_S))) (k29 : Nat → Int32 → Nat → Int32 → Int32 → vv_S → Option (hX (Int32 × vv_S))) : ∀ (c q n : Nat) (σ : vv_S) (h : Nat → Int32), gR σ x0 0 13 = some lu → isLu σ lu f → isLu σ r h → (∀ i, i < q → h i = f i) → q + c = 248 → c < n → ∃ σ' h', KX1_next_72 (KX_fo 80) ad k15 k29 n x0 x1 l x3 x4 r (nI q) σ = ((isO σ' l 11).bind fun _ => (KJ2_add ad l r σ').bind fun r3 => k29 x0 x1 l x3 (x4 + nI 1) r3.2) ∧ isLu σ' r h' ∧ (∀ i, i < 248 → h' i = f i) ∧ fr (fun q => q = r) σ σ' := by
  intro c
  induction c with
  | zero =>
    intro q n σ h U L L2 hh hq hn
    obtain ⟨n, rfl⟩ : ∃ m, n = m + 1 := ⟨n - 1, by omega⟩
    have al : aLn σ r = some (nI 248) := by unfold isLu at L2; unfold aLn; rw [L2]
    refine ⟨σ, h, ?_, L2, fun i hi => hh i (by omega), fr.rf⟩
    show BKX1_next_72 (KX_fo 80) ad k15 k29 (KX1_next_72 (KX_fo 80) ad k15 k29 n) x0 x1 l x3 x4 r (nI q) σ = _
    unfold BKX1_next_72 KX1_next_107
    simp only [al, bdS]
    rw [if_pos (nI_le (by omega) (by omega))]
  | succ c ih =>
    intro q n σ h U L L2 hh hq hn
    obtain ⟨n, rfl⟩ : ∃ m, n = m + 1 := ⟨n - 1, by omega⟩
    have al : aLn σ r = some (nI 248) := by unfold isLu at L2; unfold aLn; rw [L2]
    have e1 : aI σ .int lu (nI q) = some (f q) := aI_at L (by omega) (by omega)
    obtain ⟨σ1, s1, L3, f1⟩ := sI_at L2 (i := q) (v := f q) (by omega) (by omega)
    obtain ⟨σ2, h2, s2, L4, hh2, f2⟩ := ih (q + 1) n σ1 _ ((gR_eq (f1.n1 hne)).trans U) ((f1.n1 hnl).trans L) L3 (fun i hi => by
      by_cases e : i = q
      · subst e; rw [upd_s]
      · rw [upd_n e]; exact hh i (by omega)) (by omega) (by omega)
    refine ⟨σ2, h2, ?_, L4, hh2, f1.tr f2⟩
    show BKX1_next_72 (KX_fo 80) ad k15 k29 (KX1_next_72 (KX_fo 80) ad k15 k29 n) x0 x1 l x3 x4 r (nI q) σ = _
    unfold BKX1_next_72
    simp only [al, U, e1, s1, nI_add, bdS]
    rw [if_neg (nI_ge (by omega) (by omega))]
    exact s2
def j30 (T T' : tw_T) : Prop := T'.1 = T.1 ∧ ∀ r, r ≠ 30 → T'.2.2 r = T.2.2 r
theorem j30.rf {T : tw_T} : j30 T T := ⟨rfl, fun _ _ => rfl⟩
theorem j30.tr {T T1 T2 : tw_T} (h1 : j30 T T1) (h2 : j30 T1 T2) : j30 T T2 := ⟨h2.1.trans h1.1, fun r a => (h2.2 r a).trans (h1.2 r a)⟩
theorem j30.q {T T' : tw_T} (h : j30 T T') : jq T T' := ⟨fun k _ => congrFun h.1 k, fun r hr => h.2 r (by omega), fun q _ => by rw [h.2 20 (by omega)]⟩
theorem J_cp {N p : Nat} (hN : N < 100) (x1 : Int32) (k20 : Int32 → Int32 → Int32 → tw_T → Option (Int32 × tw_T)) : ∀ (c q n : Nat) (T : tw_T), q + c = 248 → c < n → ∃ T', J_next_45 k20 n x1 (nI N) (nI p) (nI q) T = k20 x1 (nI (N + 1)) (nI (p + 1)) T' ∧ (∀ i, q ≤ i → i < 248 → T'.2.2 30 (248 * N + i) = T.2.2 29 i) ∧ (∀ i, ¬ (248 * N + q ≤ i ∧ i < 248 * N + 248) → T'.2.2 30 i = T.2.2 30 i) ∧ j30 T T' := by
  intro c
  induction c with
  | zero =>
    intro q n T hq hn
    obtain ⟨n, rfl⟩ : ∃ m, n = m + 1 := ⟨n - 1, by omega⟩
    refine ⟨T, ?_, fun i h1 h2 => by omega, fun _ _ => rfl, j30.rf⟩
    show B_next_45 k20 (J_next_45 k20 n) x1 (nI N) (nI p) (nI q) T = _
    unfold B_next_45 J_next_82
    rw [if_pos (nI_le (by omega) (by omega)), nI_add, nI_add]
  | succ c ih =>
    intro q n T hq hn
    obtain ⟨n, rfl⟩ : ∃ m, n = m + 1 := ⟨n - 1, by omega⟩
    have f1 : j30 T (tw_A T 30 (upd (T.2.2 30) (248 * N + q) (T.2.2 29 q))) := ⟨rfl, fun _ h => A_n h⟩
    obtain ⟨T2, s2, a1, a2, f2⟩ := ih (q + 1) n (tw_A T 30 (upd (T.2.2 30) (248 * N + q) (T.2.2 29 q))) (by omega) (by omega)
    refine ⟨T2, ?_, fun i h1 h2 => ?_, fun i hi => ?_, f1.tr f2⟩
    · show B_next_45 k20 (J_next_45 k20 n) x1 (nI N) (nI p) (nI q) T = _
      unfold B_next_45
      rw [if_neg (nI_ge (show q < 248 by omega) (by omega))]
      simp only [nI_rd (show q < 248 by omega) (show 248 < 2 ^ 31 by omega), pk_mul, nI_add, nI_st (show 248 * N + q < 24800 by omega) (show 24800 < 2 ^ 31 by omega), bdS]
      exact s2
    · by_cases e : i = q
      · subst e
        rw [a2 _ (by omega), A_s, upd_s]
      · rw [a1 i (by omega) h2, A_n (by decide)]
    · rw [a2 i (by omega), A_s, upd_n (by omega)]
def upG (G : Nat → Nat → Int32) (n : Nat) (f : Nat → Int32) : Nat → Nat → Int32 := fun i => if i = n then f else G i
def nxI (B : Nat) (x0 : Nat) (h0 : Nat → Option vv_E) (pa va ca tc lu : Nat) (P : pvT) (R : Nat → Int32) (lo : Int32) (S : seT) (ad : Nat → Nat) (l m : Nat) (n e : Nat) (g : Nat → Nat) (G : Nat → Nat → Int32) (σ : vv_S) (T : tw_T) : Prop := wQ B x0 h0 pa va ca tc lu P R lo S σ T ∧ isMl σ ad l e n g ∧ (B ≤ l ∧ l < σ.2.1 ∧ e < σ.2.1) ∧ (e = ad 0 ∨ B ≤ e) ∧ (∀ i, i < n → B ≤ g i ∧ g i < σ.2.1) ∧ gsI P R n g G σ T ∧ n ≤ m
theorem nx_step (hA : adK h0 ad B) {k m : Nat} (hk : k < P.1.2.2) (hd : d < 10) (hm : m ≤ 99) {n e : Nat} {g : Nat → Nat} {G : Nat → Nat → Int32} (I : nxI B x0 h0 pa va ca tc lu P R lo S ad l m n e g G σ T) (hz : T.1 0 = 0) (k15 : Nat → Int32 → Nat → Int32 → vv_S → Option (hX (Int32 × vv_S))) (x1 : Int32) (nK nJ : Nat) : ∃ σ' T' n' e' g' G', KX1_next_29 (KX_fo 80) ad k15 (nK + 1) x0 x1 l (nI k) (nI d) σ = KX1_next_29 (KX_fo 80) ad k15 nK x0 x1 l (nI k) (nI (d + 1)) σ' ∧ J_next_20 (nJ + 1) x1 (nI n) (nI (10 * k + d)) T = J_next_20 nJ x1 (nI n') (nI (10 * k + (d + 1))) T' ∧ nxI B x0 h0 pa va ca tc lu P R lo S ad l (m + 1) n' e' g' G' σ' T' ∧ grw 3 B (coX tc va lu) σ σ' ∧ jy T T' := by
  obtain ⟨W, M, hl, he, hg, GI, hn⟩ := I
  obtain ⟨Q, U, -, -, -, hB, -⟩ := id W
  have h8 := ev_8 Q.1
  have h10 := ev_10 Q.1
  have e1 : dvI (nI (10 * k + d)) (nI 10) = some (nI k) := by rw [dv_n (by omega) (by omega), dv_10 _ (by omega), show (10 * k + d) / 10 = k by omega]
  have e2 : rmI (nI (10 * k + d)) (nI 10) = some (nI d) := by rw [rm_n (by omega) (by omega) (by omega), show (10 * k + d) % 10 = d by omega]
  have hcnt : ¬ nI 10 * T.1 3 ≤ nI (10 * k + d) := by rw [Q.tp.2.2.1, pk_mul]; exact nI_ge (by omega) (by omega)
  have z0 : ∀ T : tw_T, J_isGuess_32 (nI 0) T = some (nI 0, T) := fun T => rfl
  have z1 : ∀ T : tw_T, J_isGuess_32 (nI 1) T = some (nI 1, T) := fun T => rfl
  show ∃ σ' T' n' e' g' G', BKX1_next_29 (KX_fo 80) ad k15 (KX1_next_29 (KX_fo 80) ad k15 nK) x0 x1 l (nI k) (nI d) σ = _ ∧ B_next_20 (J_next_20 nJ) x1 (nI n) (nI (10 * k + d)) T = _ ∧ _
  unfold BKX1_next_29 KX1_next_107 B_next_20 J_next_82 J_isGuess J_isGuess_31
  rw [if_neg (nI_ge hd (by omega)), if_neg hcnt]
  simp only [Q.gc, co_o Q.co, K_lies Q.co (show k < 10 by omega), J_lies_e Q.rw (by omega) Q.tp.2.2.1 (show k < P.1.2.2 by omega) h10, e1, e2, nI_add, bdS]
  rw [show 10 * k + d + 1 = 10 * k + (d + 1) by omega]
  by_cases hL : liesR R k
  · rw [if_pos hL, if_neg s1_ne, if_neg s1_ne]
    obtain ⟨t, ht, et⟩ := inv_town_ix Q.inv (show k < 10 by omega) hL.1
    obtain ⟨b, σ1, T1, f1, s1, u1, E1, W1, fr1, g1⟩ := so_w (x1 := nI k) (d := d) W (Or.inr ⟨k, t, by omega, ht, rfl, et, hL.2⟩) (by omega)
    have ne : ∀ q, B ≤ q → ¬ coX tc va lu q := fun q hq h => by
      rcases h with (h | h) | h
      · have h : tc ≤ q ∧ q < tc + 10 := h
        omega
      · omega
      · omega
    have e0 : ad 0 < B := hA.1
    obtain ⟨b0, gg0, h00⟩ := hA.2.1
    have hle : σ1.1 e = σ.1 e := by
      rcases he with h | h
      · rw [h, W1.1.1.1 _ _ h00, Q.1.1 _ _ h00]
      · exact fr1.2 e (ne e h)
    have M1 : isMl σ1 ad l e n g := M.ke (fr1.2 l (ne l hl.1)) hle fun i hi h => by
      rw [any_k (fr1.2 _ (ne _ (hg i hi).1))]; exact h
    have cells : ∀ i, i < n → σ1.1 (g i) = some (true, .inl (.int, 248, .inl (G i))) := fun i hi => (fr1.2 _ (ne _ (hg i hi).1)).trans (GI.2 i hi).1
    have zz : σ1.2 = σ.2 := fr1.1
    have W1' := W1
    obtain ⟨Q1, U1, -, ⟨f2, L2⟩, -, hB1, -⟩ := W1'
    obtain ⟨-, -, -, L1, -, E29, E8⟩ := E1
    simp only [ev_x Q.1, s1, u1, bdS]
    cases b with
    | false =>
      simp only [show bI false = nI 0 from rfl, if_pos nI_0, z0, bdS]
      refine ⟨σ1, T1, n, e, g, G, rfl, rfl, ⟨W1, M1, by rw [zz]; exact hl, he, by rw [zz]; exact hg, ⟨GI.1, fun i hi => ⟨cells i hi, ?_, (GI.2 i hi).2.2⟩⟩, by omega⟩, ⟨by rw [zz]; omega, fun q _ hD => fr1.2 q hD⟩, g1.1, g1.2.1⟩
      rw [g1.2.2]; exact (GI.2 i hi).2.1
    | true =>
      simp only [show bI true = nI 1 from rfl, if_neg s1_ne, z1, bdS]
      have al : aLn σ1 lu = some (nI 248) := by have L := L1; unfold isLu at L; unfold aLn; rw [L]
      obtain ⟨σ2, s2, z2, n2, k2⟩ := nwK (σ := σ1) (k := 248) (by omega)
      have hr : σ1.2.1 = σ.2.1 := by rw [zz]
      obtain ⟨σ3, h3, s3, L3, hh3, fr3⟩ := K_cp (ad := ad) (l := l) (x0 := x0) (lu := lu) (r := σ1.2.1) (f := f1) (by omega) (by omega) x1 (nI k) (nI d) k15 (KX1_next_29 (KX_fo 80) ad k15 nK) 248 0 NN σ2 (fun _ => 0) ((gR_eq (k2 x0 (by omega))).trans U1.2.1) ((k2 lu (by omega)).trans L1) n2 (fun i hi => by omega) (by omega) (by unfold NN; omega)
      have k3 : ∀ q, q ≠ σ1.2.1 → σ3.1 q = σ1.1 q := fun q hq => (fr3.n1 hq).trans (k2 q hq)
      have z3 : σ3.2 = (σ.2.1 + 1, σ.2.2 + 248) := by rw [fr3.1, z2, zz]
      have M3 : isMl σ3 ad l e n g := M1.ke (k3 l (by omega)) (k3 e (by omega)) fun i hi h => by
        rw [any_k (k3 _ (by have := (hg i hi).2; omega))]; exact h
      have hany : anyK σ3 "java/lang/Object" σ1.2.1 = true := by
        have L := L3
        unfold isLu at L
        unfold anyK
        rw [L]; rfl
      obtain ⟨σ4, e', s4, M4, he4, hl4, cnt, fr4⟩ := K_add M3 (v := σ1.2.1) (by omega) ⟨by rw [z3]; dsimp only; omega, by rw [z3]; dsimp only; omega, by rw [z3]; dsimp only; omega⟩ ⟨by rw [z3, hr]; exact Nat.lt_succ_self _, hany⟩ (fun i hi => by rw [z3]; have := (hg i hi).2; dsimp only; omega)
      rw [z3] at he4 cnt fr4
      dsimp only at he4 cnt fr4
      have k4 : ∀ q, q < B → σ4.1 q = σ1.1 q := fun q hq => (fr4 q (by omega) (by omega) (by
        rcases he with h | h
        · exact Or.inr h
        · exact Or.inl (by omega))).trans (k3 q (by omega))
      have W4 := W1.al k4 (by omega)
      have il : isO σ3 l 11 = some () := li_o (M3.li (by omega))
      obtain ⟨T2, u2, a1, a2, fj⟩ := J_cp (N := n) (p := 10 * k + d) (by omega) x1 (J_next_20 nJ) 248 0 NN T1 (by omega) (by unfold NN; omega)
      have jyA : jy T T2 := ⟨g1.1.tr fj.q, (congrFun fj.1 0).trans g1.2.1⟩
      rw [show 10 * k + d + 1 = 10 * k + (d + 1) by omega] at u2
      have s3 : KX1_next_72 (KX_fo 80) ad k15 (KX1_next_29 (KX_fo 80) ad k15 nK) NN x0 x1 l (nI k) (nI d) σ1.2.1 (nI 0) σ2 = _ := s3
      have u2 : J_next_45 (J_next_20 nJ) NN x1 (nI n) (nI (10 * k + d)) (nI 0) T1 = _ := u2
      simp only [U1.2.1, al, s2, s3, il, s4, u2, nI_add, bdS]
      obtain ⟨mc, bb, cap, gg, m1, m2, -, -, -, -, m7, -⟩ := M
      have gl : ∀ i, i < n → g i ≠ l ∧ g i ≠ e := fun i hi => ⟨fun z => (by
        have h := (GI.2 i hi).1
        rw [z, m1] at h
        cases h), any_e m2 (m7 i hi).2⟩
      have rB : B ≤ σ1.2.1 := by omega
      refine ⟨σ4, T2, n + 1, e', upN g n σ1.2.1, upG G n h3, rfl, rfl, ⟨W4.j fj.q, M4, ⟨hl.1, by omega, hl4⟩, ?_, fun i hi => ?_, ⟨by omega, fun i hi => ?_⟩, by omega⟩, ⟨⟨by omega, by omega, by omega, by omega⟩, fun q hq hD => (k4 q hq).trans (fr1.2 q hD)⟩, jyA⟩
      · rcases he4 with ⟨h1, h2⟩ | h
        · rw [h1]; exact he
        · exact Or.inr (by omega)
      · unfold upN
        by_cases e : i = n
        · rw [if_pos e]; omega
        · rw [if_neg e]
          have := hg i (by omega)
          omega
      · unfold upN upG
        by_cases ei : i = n
        · rw [if_pos ei, if_pos ei, ei]
          refine ⟨?_, fun j t hj ht => ?_, fun j t hj h1 h2 => ?_⟩
          · rw [fr4 _ (by omega) (by omega) (Or.inl (by omega))]
            exact L3
          · rw [a1 _ (by omega) (by omega), E29 j t hj ht, hh3 _ (by omega)]
          · rw [hh3 _ (by omega)]
            exact E8 j t hj h1 h2
        · rw [if_neg ei, if_neg ei]
          have hi' : i < n := by omega
          refine ⟨?_, fun j t hj ht => ?_, (GI.2 i hi').2.2⟩
          · rw [fr4 _ (by have := (hg i hi').2; omega) (gl i hi').1 (Or.inl (gl i hi').2), k3 _ (by have := (hg i hi').2; omega)]
            exact cells i hi'
          · rw [a2 _ (by omega), g1.2.2]
            exact (GI.2 i hi').2.1 j t hj ht
  · rw [if_neg hL, if_pos nI_0, if_pos nI_0]
    simp only [z0, bdS]
    rw [if_pos nI_0]
    exact ⟨σ, T, n, e, g, G, rfl, rfl, ⟨W, M, hl, he, hg, GI, by omega⟩, ⟨by omega, fun _ _ _ => rfl⟩, jy.rf⟩
end NY
