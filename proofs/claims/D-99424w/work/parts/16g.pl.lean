/-! the plain law: missed; a game -/
set_option maxRecDepth 100000
section QG
variable {σ : vv_S} {T : tw_T} {x0 pa va ca a : Nat} {h0 : Nat → Option vv_E} {P : pvT} {R : Nat → Int32} {lo : Int32}
theorem lies_d {R : Nat → Int32} {k : Nat} : (if liesR R k then nI 1 else nI 0) = 0 ↔ ¬ liesR R k := ite_0
/-- all others are opened -/
theorem miss_in (cx : six P ∧ invP P) (h8 : P.1.1 ≤ 8) (h10 : P.1.2.2 ≤ 10) (hd : ∀ q, coA a q → h0 q = none) {k : Nat} (hk : k < P.1.2.2) (best least : Int32) (kk : Nat → Int32 → Int32 → Int32 → vv_S → Option (Int32 × vv_S)) (jj : Int32 → Int32 → Int32 → tw_T → Option (Int32 × tw_T)) : ∀ (c i n : Nat) (σ : vv_S) (T : tw_T) (R1 R2 : Nat → Int32) (lo : Int32), isEnv σ x0 h0 pa va P → isCo σ x0 a R1 lo → isRw T 85 R2 → isTp T P → invR P R1 → invR P R2 → xq (55 + k) R1 R2 → liesR R1 k → R2 (55 + k) = -1 → i + c = P.1.2.2 → c < n →
    ∃ v σ' T', KX1_missed_43 (KX_fo 80) kk n x0 best least (nI k) a (nI i) σ = (if best = -1 then kk x0 (nI k) v (nI (k + 1)) σ' else if v < least then kk x0 (nI k) v (nI (k + 1)) σ' else kk x0 best least (nI (k + 1)) σ') ∧
      J_missed_49 jj n best least (nI k) (nI i) T = (if best = -1 then jj (nI k) v (nI (k + 1)) T' else if v < least then jj (nI k) v (nI (k + 1)) T' else jj best least (nI (k + 1)) T') ∧ isEnv σ' x0 h0 pa va P ∧ fr (coV a va) σ σ' ∧ jfr 85 T T' := by
  intro c
  induction c with
  | zero =>
    intro i n σ T R1 R2 lo H c0 r0 p0 i1 i2 hx hl hg hi hn
    obtain ⟨n, rfl⟩ : ∃ m, n = m + 1 := ⟨n - 1, by omega⟩
    obtain ⟨σ1, s1, c1, f1⟩ := K_lose c0 (k := k) (by omega)
    have H1 := ev_co H c0 hd f1
    obtain ⟨σ2, lo2, s2, H2, c2, f2⟩ := K_wonIn H1 c1 cx.1 hd (m := 30) (by omega)
    obtain ⟨T2, u2, r2, p2, -, g2⟩ := J_days_e r0 p0 i2 cx.2 cx.1 h8 h10 (m := 30) (by omega)
    have b2 : J_allOf (nI 102) T2 = some (sumR P (itR P 30 R2) 17, T2) := J_all_e r2 (by omega) p2 h8 (s := 17) (by omega)
    have hq : xq (25 + k) (loseR R1 k) R2 := by
      intro q hq
      unfold loseR
      by_cases e1 : q = 65 + k
      · subst e1
        rw [upd_s, ← hx _ (by omega), hl.2, nI_0]
      · rw [upd_n e1]
        by_cases e2 : q = 55 + k
        · subst e2
          rw [upd_s, hg]
        · rw [upd_n e2, upd_n hq, hx _ e2]
    have hz : loseR R1 k (65 + k) ≤ 0 := by
      unfold loseR
      rw [upd_s, nI_0, ti_le]
      exact Int.le_refl _
    have hs : sumR P (itR P 30 (loseR R1 k)) 17 = sumR P (itR P 30 R2) 17 := xq_sum (xq_it (by omega) h8 h10 30 _ _ hq hz) h8
    refine ⟨sumR P (itR P 30 R2) 17, σ2, T2, ?_, ?_, H2, (f1.mo fun q hq => Or.inl hq).tr f2, g2⟩
    · show BKX1_missed_43 (KX_fo 80) kk (KX1_missed_43 (KX_fo 80) kk n) x0 best least (nI k) a (nI i) σ = _
      unfold BKX1_missed_43 KX1_missed_115 KX1_missed_120
      simp only [ev_pa H, ev_cr H, co_o c0, s1, ev_x H1, s2, bdS]
      rw [if_pos (nI_le (by omega) (by omega)), nI_add, hs]
    · show B_missed_49 jj (J_missed_49 jj n) best least (nI k) (nI i) T = _
      unfold B_missed_49 J_missed_111 J_missed_116
      rw [p0.2.2.1, if_pos (nI_le (by omega) (by omega)), nI_add]
      simp only [u2, b2, bdS]
  | succ c ih =>
    intro i n σ T R1 R2 lo H c0 r0 p0 i1 i2 hx hl hg hi hn
    obtain ⟨n, rfl⟩ : ∃ m, n = m + 1 := ⟨n - 1, by omega⟩
    have hi10 : i < 10 := by omega
    show ∃ v σ' T', BKX1_missed_43 (KX_fo 80) kk (KX1_missed_43 (KX_fo 80) kk n) x0 best least (nI k) a (nI i) σ = _ ∧ B_missed_49 jj (J_missed_49 jj n) best least (nI k) (nI i) T = _ ∧ _
    unfold BKX1_missed_43 B_missed_49 KX1_missed_79 J_missed_77
    simp only [ev_pa H, ev_cr H, co_o c0, K_lies c0 hi10, J_lies_e r0 (by omega) p0.2.2.1 (show i < P.1.2.2 by omega) h10, p0.2.2.1, bdS]
    rw [if_neg (nI_ge (show i < P.1.2.2 by omega) (by omega)), if_neg (nI_ge (show i < P.1.2.2 by omega) (by omega))]
    have skip := fun h => ih (i + 1) n σ T R1 R2 lo H c0 r0 p0 i1 i2 hx hl hg h (by omega)
    rw [nI_add]
    by_cases hik : i = k
    · subst hik
      have h2 : ¬ liesR R2 i := fun z => z.1 hg
      rw [if_pos rfl, if_pos (lies_d.mpr h2)]
      exact skip (by omega)
    · have e1 : liesR R1 i ↔ liesR R2 i := by
        unfold liesR
        rw [hx (55 + i) (by omega), hx (65 + i) (by omega)]
      rw [if_neg (nI_nn hik (by omega) (by omega))]
      by_cases h2 : liesR R2 i
      · have h1 := e1.mpr h2
        rw [if_neg (fun z => lies_d.mp z h1), if_neg (fun z => lies_d.mp z h2)]
        obtain ⟨t, ht, et⟩ := inv_town_ix i1 hi10 h1.1
        have et2 : R2 (55 + i) = nI t := by rw [← hx (55 + i) (by omega)]; exact et
        obtain ⟨σ1, s1, c1, f1⟩ := K_open c0 hi10 (show t < 8 by omega) et
        obtain ⟨T1, u1, r1, q1, g1⟩ := J_opens_e r0 (by omega) i2 p0 h8 h10 (show i < P.1.2.2 by omega) ht et2 h2.2
        simp only [s1, u1, bdS]
        have oth : ∀ {R : Nat → Int32} {q : Nat}, q ≠ 1 + t → q ≠ 9 + t → q ≠ 25 + i → q ≠ 55 + i → q ≠ 65 + i → openR R i t q = R q := by
          intro R q a1 a2 a3 a4 a5
          unfold openR loseR giveR
          rw [upd_n a5, upd_n a4, upd_n a3]
          split
          · rw [upd_n a1]
          · rw [upd_n a2]
        obtain ⟨v, σ2, T2, s2, u2, H2, f2, g2⟩ := ih (i + 1) n σ1 T1 _ _ lo (ev_co H c0 hd f1) c1 r1 (p0.jf g1) (inv_open i1 hi10 (by omega)) (inv_open i2 hi10 (by omega)) (xq_open hx (by omega) (by omega) (by omega) (by omega))
          ⟨by rw [oth (by omega) (by omega) (by omega) (by omega) (by omega)]; exact hl.1, by rw [oth (by omega) (by omega) (by omega) (by omega) (by omega)]; exact hl.2⟩
          (by rw [oth (by omega) (by omega) (by omega) (by omega) (by omega)]; exact hg) (by omega) (by omega)
        exact ⟨v, σ2, T2, s2, u2, H2, (f1.mo fun q hq => Or.inl hq).tr f2, g1.tr g2⟩
      · have h1 : ¬ liesR R1 i := fun z => h2 (e1.mp z)
        rw [if_pos (lies_d.mpr h1), if_pos (lies_d.mpr h2)]
        exact skip (by omega)
theorem miss_out : ∀ (c i n : Nat) (σ : vv_S) (T : tw_T) (best least : Int32), isQ x0 h0 pa va ca P R lo σ T → T.1 0 = 0 → i + c = P.1.2.2 → c < n →
    ∃ v σ' T', KX1_missed_6 (KX_fo 80) n x0 best least (nI i) σ = some (v, σ') ∧ J_missed_11 n best least (nI i) T = some (v, T') ∧ isEnv σ' x0 h0 pa va P ∧ fa (fun q => q = va) (10 * c) (96 * c) σ σ' ∧ jq T T' ∧ T'.1 0 = 0 := by
  intro c
  induction c with
  | zero =>
    intro i n σ T best least Q hz hi hn
    obtain ⟨n, rfl⟩ : ∃ m, n = m + 1 := ⟨n - 1, by omega⟩
    have h10 := ev_10 Q.1
    refine ⟨best, σ, T, ?_, ?_, Q.1, fa.rf, jq.rf, hz⟩
    · show BKX1_missed_6 (KX_fo 80) (KX1_missed_6 (KX_fo 80) n) x0 best least (nI i) σ = _
      unfold BKX1_missed_6
      simp only [ev_pa Q.1, ev_cr Q.1, bdS]
      rw [if_pos (nI_le (by omega) (by omega))]
    · show B_missed_11 (J_missed_11 n) best least (nI i) T = _
      unfold B_missed_11
      rw [Q.tp.2.2.1, if_pos (nI_le (by omega) (by omega))]
  | succ c ih =>
    intro i n σ T best least Q hz hi hn
    obtain ⟨n, rfl⟩ : ∃ m, n = m + 1 := ⟨n - 1, by omega⟩
    have h8 := ev_8 Q.1
    have h10 := ev_10 Q.1
    have hi10 : i < 10 := by omega
    show ∃ v σ' T', BKX1_missed_6 (KX_fo 80) (KX1_missed_6 (KX_fo 80) n) x0 best least (nI i) σ = _ ∧ B_missed_11 (J_missed_11 n) best least (nI i) T = _ ∧ _
    unfold BKX1_missed_6 B_missed_11 KX1_missed_120 J_missed_116
    simp only [ev_pa Q.1, ev_cr Q.1, Q.gc, co_o Q.co, K_lies Q.co hi10, J_lies_e Q.rw (by omega) Q.tp.2.2.1 (show i < P.1.2.2 by omega) h10, Q.tp.2.2.1, bdS]
    rw [if_neg (nI_ge (show i < P.1.2.2 by omega) (by omega)), if_neg (nI_ge (show i < P.1.2.2 by omega) (by omega))]
    by_cases hl : liesR R i
    · rw [if_neg (fun z => lies_d.mp z hl), if_neg (fun z => lies_d.mp z hl)]
      obtain ⟨σ1, T1, s1, u1, B1, hd, F1, z1, y1, g1, hz1⟩ := Q.start hz
      obtain ⟨lo1, H1, c1, r1, p1, i1⟩ := B1
      obtain ⟨T2, u2, r2, g2⟩ := rw_st r1 (by omega) (k := 55 + i) (v := -1) (by omega)
      have u2 : stA T1 20 170 (nI 140 + nI i) (-1) = some T2 := by rw [nI_add, show 140 + i = 85 + (55 + i) by omega]; exact u2
      have i2 : invR P (upd R (55 + i) (-1)) := inv_u Q.inv ⟨fun a c => by omega, fun a c => by omega, fun a c => by omega, fun _ _ => ⟨by rw [ti_m1]; omega, by rw [ti_m1]; omega⟩, fun a c => by omega⟩
      obtain ⟨v, σ3, T3, s3, u3, H3, f3, g3⟩ := miss_in Q.cx h8 h10 hd (k := i) (by omega) best least (KX1_missed_6 (KX_fo 80) n) (J_missed_11 n) P.1.2.2 0 NN σ1 T2 R (upd R (55 + i) (-1)) lo1 H1 c1 r2 (p1.jf g2) Q.inv i2 (fun q hq => (upd_n hq).symm) hl upd_s (by omega) (by unfold NN; omega)
      have F3 := F1.coV (Nat.le_refl _) f3
      have Q3 := (Q.k H3 F3).j (g1.tr (jq.jf (g2.tr g3)))
      have hz3 : T3.1 0 = 0 := (g3.z.trans g2.z).trans hz1
      have fin : ∀ x y : Int32, ∃ v σ' T', KX1_missed_6 (KX_fo 80) n x0 x y (nI (i + 1)) σ3 = some (v, σ') ∧ J_missed_11 n x y (nI (i + 1)) T3 = some (v, T') ∧ isEnv σ' x0 h0 pa va P ∧ fa (fun q => q = va) (10 * (c + 1)) (96 * (c + 1)) σ σ' ∧ jq T T' ∧ T'.1 0 = 0 := by
        intro x y
        obtain ⟨v, σ4, T4, s4, u4, H4, F4, g4, hz4⟩ := ih (i + 1) n σ3 T3 x y Q3 hz3 (by omega) (by omega)
        exact ⟨v, σ4, T4, s4, u4, H4, (F3.tr F4 (fun _ _ h => h)).mo (fun _ h => h) (by omega) (by omega), (g1.tr (jq.jf (g2.tr g3))).tr g4, hz4⟩
      simp only [s1, u1, u2, s3, u3, bdS]
      by_cases e1 : best = -1
      · rw [if_pos e1, if_pos e1]
        exact fin _ _
      · rw [if_neg e1, if_neg e1]
        by_cases e2 : v < least
        · rw [if_pos e2, if_pos e2]
          exact fin _ _
        · rw [if_neg e2, if_neg e2]
          exact fin _ _
    · rw [if_pos (lies_d.mpr hl), if_pos (lies_d.mpr hl), nI_add]
      obtain ⟨v, σ4, T4, s4, u4, H4, F4, g4, hz4⟩ := ih (i + 1) n σ T best least Q hz (by omega) (by omega)
      exact ⟨v, σ4, T4, s4, u4, H4, F4.mo (fun _ h => h) (by omega) (by omega), g4, hz4⟩
/-- both answer alike, nothing is thrown -/
def ans0 (va n m : Nat) (σ : vv_S) (T : tw_T) (k : Option (Int32 × vv_S)) (j : Option (Int32 × tw_T)) : Prop := ∃ v σ' T', k = some (v, σ') ∧ j = some (v, T') ∧ fa (fun q => q = va) n m σ σ' ∧ okV σ' va ∧ jq T T'
theorem o_missed (Q : isQ x0 h0 pa va ca P R lo σ T) : ans0 va 100 960 σ T (KX1_missed (KX_fo 80) x0 σ) (J_missed T) := by
  obtain ⟨T0, e0, Q0, hz, f0⟩ := Q.z
  have h10 := ev_10 Q0.1
  obtain ⟨v, σ1, T1, s1, u1, H1, F1, g1, hz1⟩ := miss_out P.1.2.2 0 NN σ T0 (-1) (nI 0) Q0 hz (by omega) (by unfold NN; omega)
  refine ⟨v, σ1, T1, s1, ?_, F1.mo (fun _ h => h) (by omega) (by omega), H1.ov, f0.tr g1⟩
  unfold J_missed
  simp only [e0, bdS, u1]
/-! a game -/
def gnR (R : Nat → Int32) (t u : Nat) (A B : Int32) : Nat → Int32 := upd (upd R (1 + t) (mnI (nI 9999) (R (1 + t) - A * (R (1 + t) / nI 10) + B * (R (1 + u) / nI 10)))) (1 + u) (mnI (nI 9999) (R (1 + u) - B * (R (1 + u) / nI 10) + A * (R (1 + t) / nI 10)))
def gnV (P : pvT) (R : Nat → Int32) (t u : Nat) (A B : Int32) (w : Nat) : Int32 := itR P 10 (gnR R t u A B) (17 + w) - R (17 + w)
theorem gn_sym {R : Nat → Int32} {t u : Nat} (htu : t ≠ u) (A B : Int32) : gnR R u t B A = gnR R t u A B := by
  funext q
  unfold gnR
  by_cases e1 : q = 1 + t
  · subst e1
    rw [upd_s, upd_n (show 1 + t ≠ 1 + u by omega), upd_s]
  · rw [upd_n e1]
    by_cases e2 : q = 1 + u
    · subst e2
      rw [upd_s, upd_s]
    · rw [upd_n e2, upd_n e2, upd_n e1]
theorem gn_b {R : Nat → Int32} (hI : invR P R) {t u : Nat} (ht : t < 8) (hu : u < 8) {A B : Nat} (hA : A < 2) (hB : B < 2) : ∃ g, g ≤ 20000 ∧ R (1 + t) - nI A * (R (1 + t) / nI 10) + nI B * (R (1 + u) / nI 10) = nI g := by
  obtain ⟨x, hx, ex⟩ := rI_n (m := 9999) (hI.1 t ht).1
  obtain ⟨y, hy, ey⟩ := rI_n (m := 9999) (hI.1 u hu).1
  rw [ex, ey, pk_div (by omega) (by omega) (by omega), pk_div (by omega) (by omega) (by omega), pk_mul, pk_mul]
  rcases (show A = 0 ∨ A = 1 by omega) with rfl | rfl <;> rcases (show B = 0 ∨ B = 1 by omega) with rfl | rfl
  all_goals
    rw [pk_sub (by omega), nI_add]
    exact ⟨_, by omega, rfl⟩
theorem inv_gn {R : Nat → Int32} (hI : invR P R) {t u : Nat} (ht : t < 8) (hu : u < 8) {A B : Nat} (hA : A < 2) (hB : B < 2) : invR P (gnR R t u (nI A) (nI B)) := by
  obtain ⟨g, hg, eg⟩ := gn_b hI ht hu hA hB
  obtain ⟨g', hg', eg'⟩ := gn_b hI hu ht hB hA
  have e9 := ti_n (n := 9999) (by omega)
  have e1 := ti_n (n := g) (by omega)
  have e2 := ti_n (n := g') (by omega)
  unfold gnR
  rw [eg, eg']
  exact inv_u (inv_u hI ⟨fun _ _ => ⟨by rw [mn_ti, e9, e1]; omega, by rw [mn_ti, e9, e1]; omega⟩, fun a c => by omega, fun a c => by omega, fun a c => by omega, fun a c => by omega⟩) ⟨fun _ _ => ⟨by rw [mn_ti, e9, e2]; omega, by rw [mn_ti, e9, e2]; omega⟩, fun a c => by omega, fun a c => by omega, fun a c => by omega, fun a c => by omega⟩
theorem fr.n1 {b q : Nat} {σ σ' : vv_S} (h : fr (fun q => q = b) σ σ') (hq : q ≠ b) : σ'.1 q = σ.1 q := h.2 q hq
theorem nw2 {σ : vv_S} : ∃ σ1, nwA σ .int (nI 2) = some σ1 ∧ σ1.2 = (σ.2.1 + 1, σ.2.2 + 2) ∧ σ1.1 σ.2.1 = some (true, .inl (.int, 2, .inl (fun _ => 0))) ∧ ∀ q, q ≠ σ.2.1 → σ1.1 q = σ.1 q := by
  refine ⟨(vv_up σ.1 σ.2.1 (true, .inl (.int, 2, .inl (fun _ => 0))), σ.2.1 + 1, σ.2.2 + 2), ?_, rfl, vv_up_at, fun q hq => up_n hq⟩
  unfold nwA
  rw [if_neg (by rw [nI_clamp (by omega)]; intro h; rcases h with h | h; exact nI_pos (by omega) h; omega), nI_clamp (by omega)]
theorem aI_at {σ : vv_S} {b n i : Nat} {f : Nat → Int32} {g : Bool} (h : σ.1 b = some (g, .inl (.int, n, .inl f))) (hi : i < n) (hn : n < 2 ^ 31) : aI σ .int b (nI i) = some (f i) := by
  unfold aI
  rw [h]
  show (if FieldType.int = FieldType.int then rdI n f (nI i) else none) = _
  rw [if_pos rfl, nI_rd hi hn]
theorem sI_at {σ : vv_S} {b n i : Nat} {v : Int32} {f : Nat → Int32} (h : σ.1 b = some (true, .inl (.int, n, .inl f))) (hi : i < n) (hn : n < 2 ^ 31) : ∃ σ', sI σ b (nI i) v = some σ' ∧ σ'.1 b = some (true, .inl (.int, n, .inl (upd f i v))) ∧ fr (fun q => q = b) σ σ' := by
  refine ⟨(vv_up σ.1 b (true, .inl (.int, n, .inl (upd f i v))), σ.2), ?_, vv_up_at, rfl, fun q hq => up_n hq⟩
  unfold sI
  rw [h]
  show (if FieldType.int = FieldType.int ∧ ¬ ((nI i) < 0 ∨ n ≤ (nI i).toNatClampNeg) then _ else none) = _
  rw [if_pos ⟨rfl, nI_in hi hn⟩, nI_clamp (by omega)]
theorem K_gains (Q : isQ x0 h0 pa va ca P R lo σ T) {t u : Nat} (ht : t < P.1.1) (hu : u < P.1.1) (htu : t ≠ u) (A B : Int32) : ∃ σ' r, KX1_gains (KX_fo 80) x0 (nI t) (nI u) A B σ = some (r, σ') ∧ σ.2.1 ≤ r ∧ r < σ'.2.1 ∧ σ'.1 r = some (true, .inl (.int, 2, .inl (upd (upd (fun _ => 0) 0 (gnV P R t u A B t)) 1 (gnV P R t u A B u)))) ∧ isEnv σ' x0 h0 pa va P ∧ fa (fun q => q = va) 11 98 σ σ' := by
  have h8 := ev_8 Q.1
  obtain ⟨σ1, s1, c1, z1, k1⟩ := K_copy Q.co Q.lt.2.2
  have H1 := Q.1.up Q.dm Q.lt.1 Q.lt.2.1 k1
  have F1 : fa (fun q => q = va) 10 96 σ σ1 := ⟨by rw [z1]; exact ⟨Nat.le_add_right _ _, Nat.le_refl _, Nat.le_add_right _ _, Nat.le_refl _⟩, fun q h1 _ => k1 q h1⟩
  have hd : ∀ q, coA σ.2.1 q → h0 q = none := fun q hq => Q.dm q hq.1
  have Q1 := Q.k H1 F1
  have hl := Q.lt
  have ke : ∀ {σa σb : vv_S}, isCo σa x0 ca R lo → fr (coA σ.2.1) σa σb → isCo σb x0 ca R lo := fun h f => h.ke fun q h1 h2 => f.2 q fun h4 => by have h4 : σ.2.1 ≤ q ∧ q < σ.2.1 + 10 := h4; omega
  have l0 : aI σ1 .int (ca + 1 + 0) (nI t) = some (R (1 + t)) := co_aI Q1.co (j := 0) (by decide) (show t < 8 by omega)
  have l1 : aI σ1 .int (ca + 1 + 0) (nI u) = some (R (1 + u)) := co_aI Q1.co (j := 0) (by decide) (show u < 8 by omega)
  obtain ⟨σ2, s2, c2, f2⟩ := co_sI c1 (j := 0) (i := t) (v := mnI (nI 9999) (R (1 + t) - A * (R (1 + t) / nI 10) + B * (R (1 + u) / nI 10))) (by decide) (show t < 8 by omega)
  have H2 := ev_co H1 c1 hd f2
  have e2 := ke Q1.co f2
  have x2 : gR σ2 x0 0 2 = some ca := (gR_eq (f2.2 _ (ev_xco H1 c1))).trans Q1.gc
  have l2 : aI σ2 .int (ca + 1 + 0) (nI u) = some (R (1 + u)) := co_aI e2 (j := 0) (by decide) (show u < 8 by omega)
  obtain ⟨σ3, s3, c3, f3⟩ := co_sI c2 (j := 0) (i := u) (v := mnI (nI 9999) (R (1 + u) - B * (R (1 + u) / nI 10) + A * (R (1 + t) / nI 10))) (by decide) (show u < 8 by omega)
  have H3 := ev_co H2 c2 hd f3
  have c3 : isCo σ3 x0 σ.2.1 (gnR R t u A B) 0 := c3
  obtain ⟨σ4, lo4, s4, H4, c4, f4⟩ := K_after H3 c3 Q.cx.1 hd (m := 10) (by omega)
  have F4 := ((F1.coV (Nat.le_refl _) (f2.mo fun q hq => Or.inl hq)).coV (Nat.le_refl _) (f3.mo fun q hq => Or.inl hq)).coV (Nat.le_refl _) f4
  have z4 : σ4.2 = σ1.2 := (f4.1.trans f3.1).trans f2.1
  have Q4 := Q.k H4 F4
  obtain ⟨σ5, s5, z5, n5, k5⟩ := nw2 (σ := σ4)
  have z41 : σ4.2.1 = σ.2.1 + 10 := by rw [z4, z1]
  have H5 := H4.up Q4.dm Q4.lt.1 Q4.lt.2.1 (fun q hq => k5 q (by omega))
  have F5 : fa (fun q => q = va) 1 2 σ4 σ5 := ⟨by rw [z5]; exact ⟨Nat.le_add_right _ _, Nat.le_refl _, Nat.le_add_right _ _, Nat.le_refl _⟩, fun q h1 _ => k5 q (by omega)⟩
  have Q5 := Q4.k H5 F5
  have c5 : isCo σ5 x0 σ.2.1 (itR P 10 (gnR R t u A B)) lo4 := c4.ke fun q h1 h2 => k5 q (by omega)
  have m0 : aI σ5 .int (σ.2.1 + 1 + 2) (nI t) = some (itR P 10 (gnR R t u A B) (17 + t)) := co_aI c5 (j := 2) (by decide) (show t < 8 by omega)
  have m1 : aI σ5 .int (ca + 1 + 2) (nI t) = some (R (17 + t)) := co_aI Q5.co (j := 2) (by decide) (show t < 8 by omega)
  obtain ⟨σ6, s6, n6, f6⟩ := sI_at n5 (i := 0) (v := gnV P R t u A B t) (by omega) (by omega)
  have c6 : isCo σ6 x0 σ.2.1 (itR P 10 (gnR R t u A B)) lo4 := c5.ke fun q h1 h2 => f6.n1 (by omega)
  have d6 : isCo σ6 x0 ca R lo := Q5.co.ke fun q h1 h2 => f6.n1 (by omega)
  have x6 : gR σ6 x0 0 2 = some ca := (gR_eq (f6.n1 (by omega))).trans Q5.gc
  have m2 : aI σ6 .int (σ.2.1 + 1 + 2) (nI u) = some (itR P 10 (gnR R t u A B) (17 + u)) := co_aI c6 (j := 2) (by decide) (show u < 8 by omega)
  have m3 : aI σ6 .int (ca + 1 + 2) (nI u) = some (R (17 + u)) := co_aI d6 (j := 2) (by decide) (show u < 8 by omega)
  obtain ⟨σ7, s7, n7, f7⟩ := sI_at n6 (i := 1) (v := gnV P R t u A B u) (by omega) (by omega)
  have F7 : fa (fun q => q = va) 11 98 σ σ7 := ((F4.tr F5 (fun _ _ h => h)).tr (fa.off (f6.tr f7)) (fun q hq h => absurd (show q = σ4.2.1 from h) (by omega))).mo (fun _ h => h) (by omega) (by omega)
  have H7 := H4.up Q4.dm Q4.lt.1 Q4.lt.2.1 (σ' := σ7) (fun q hq => (f7.n1 (by omega)).trans ((f6.n1 (by omega)).trans (k5 q (by omega))))
  have t7 : gnV P R t u A B t = itR P 10 (gnR R t u A B) (17 + t) - R (17 + t) := rfl
  have t8 : gnV P R t u A B u = itR P 10 (gnR R t u A B) (17 + u) - R (17 + u) := rfl
  rw [t7] at s6
  rw [t8] at s7
  refine ⟨σ7, σ4.2.1, ?_, by omega, by rw [f7.1, f6.1, z5]; exact Nat.lt_succ_self _, n7, H7, F7⟩
  unfold KX1_gains
  simp only [Q.gc, co_o Q.co, s1, Q1.gc, co_R Q1.co (j := 0) (by decide), l0, l1, dv_n (show 0 < 10 by omega) (show 10 < 2 ^ 31 by omega), co_R c1 (j := 0) (by decide), s2, co_R c2 (j := 0) (by decide), x2, co_R e2 (j := 0) (by decide), l2, s3, co_o c3, s4, s5, co_R c5 (j := 2) (by decide), m0, Q5.gc, co_R Q5.co (j := 2) (by decide), m1, s6, co_R c6 (j := 2) (by decide), m2, x6, co_R d6 (j := 2) (by decide), m3, s7, bdS]
theorem J_gains_e (cx : six P ∧ invP P) (h8 : P.1.1 ≤ 8) (h10 : P.1.2.2 ≤ 10) (r0 : isRw T 0 R) (p0 : isTp T P) (hI : invR P R) {t u : Nat} (ht : t < P.1.1) (hu : u < P.1.1) (htu : t ≠ u) {A B : Nat} (hA : A < 2) (hB : B < 2) : ∃ T', J_gains (nI t) (nI u) (nI A) (nI B) T = some (gnV P R t u (nI A) (nI B) t, T') ∧ jq T T' ∧ T'.1 0 = T.1 0 := by
  obtain ⟨g, hg, eg⟩ := gn_b hI (show t < 8 by omega) (show u < 8 by omega) hA hB
  obtain ⟨g', hg', eg'⟩ := gn_b hI (show u < 8 by omega) (show t < 8 by omega) hB hA
  have e1 := ti_n (n := g) (by omega)
  have e2 := ti_n (n := g') (by omega)
  have k1 : kepI (R (1 + t) - nI A * (R (1 + t) / nI 10) + nI B * (R (1 + u) / nI 10)) (nI 0) (nI 9999) = mnI (nI 9999) (R (1 + t) - nI A * (R (1 + t) / nI 10) + nI B * (R (1 + u) / nI 10)) := mn_kep (by rw [eg, e1]; omega)
  have k2 : kepI (R (1 + u) - nI B * (R (1 + u) / nI 10) + nI A * (R (1 + t) / nI 10)) (nI 0) (nI 9999) = mnI (nI 9999) (R (1 + u) - nI B * (R (1 + u) / nI 10) + nI A * (R (1 + t) / nI 10)) := mn_kep (by rw [eg', e2]; omega)
  obtain ⟨T1, s1, r1, q1, f1⟩ := J_tries_e r0
  have r01 := r0.jq (jq.jf f1)
  have p1 := p0.jf f1
  obtain ⟨T2, s2, r2, f2⟩ := rw_st r1 (by omega) (k := 1 + t) (v := mnI (nI 9999) (R (1 + t) - nI A * (R (1 + t) / nI 10) + nI B * (R (1 + u) / nI 10))) (by omega)
  have r02 := r01.jq (jq.jf f2)
  obtain ⟨T3, s3, r3, f3⟩ := rw_st r2 (by omega) (k := 1 + u) (v := mnI (nI 9999) (R (1 + u) - nI B * (R (1 + u) / nI 10) + nI A * (R (1 + t) / nI 10))) (by omega)
  rw [show 85 + (1 + t) = 86 + t by omega] at s2
  rw [show 85 + (1 + u) = 86 + u by omega] at s3
  have r3 : isRw T3 85 (gnR R t u (nI A) (nI B)) := r3
  have p3 := (p1.jf f2).jf f3
  obtain ⟨T4, s4, r4, p4, -, f4⟩ := J_days_e r3 p3 (inv_gn hI (show t < 8 by omega) (show u < 8 by omega) hA hB) cx.2 cx.1 h8 h10 (m := 10) (by omega)
  have fA := ((f1.tr f2).tr f3).tr f4
  have r04 := r0.jq (jq.jf fA)
  refine ⟨T4, ?_, jq.jf fA, fA.z⟩
  unfold J_gains
  simp only [nI_add, rd0 r0 (show 1 + t < 85 by omega) (us_tp p0 (by omega) (by omega) (by omega)), rd0 r0 (show 1 + u < 85 by omega) (us_tp p0 (by omega) (by omega) (by omega)), dv_n (show 0 < 10 by omega) (show 10 < 2 ^ 31 by omega), s1, rd0 r01 (show 1 + t < 85 by omega) (us_tp p1 (by omega) (by omega) (by omega)), J_kept_e, k1, s2, rd0 r02 (show 1 + u < 85 by omega) (us_tp (p1.jf f2) (by omega) (by omega) (by omega)), k2, s3, s4, rd85 r4 (show 17 + t < 85 by omega) (show 102 + t = 85 + (17 + t) by omega) (us_tp p4 (by omega) (by omega) (by omega)), rd0 r04 (show 17 + t < 85 by omega) (us_tp p4 (by omega) (by omega) (by omega)), bdS]
  rfl
theorem gnV_sym {R : Nat → Int32} {t u w : Nat} (htu : t ≠ u) (A B : Int32) : gnV P R u t B A w = gnV P R t u A B w := by
  unfold gnV
  rw [gn_sym htu]
/-- one choice is looked at -/
theorem game_step (Q : isQ x0 h0 pa va ca P R lo σ T) (hz : T.1 0 = 0) {t u : Nat} (ht : t < P.1.1) (hu : u < P.1.1) (htu : t ≠ u) (w : Int32) (kk : Nat → Int32 → Int32 → Int32 → Int32 → Int32 → Int32 → vv_S → Option (hX (Int32 × vv_S))) {A B k n n' : Nat} (hA : A < 2) (hB : B < 2) (hk : k = 2 * A + B) {mm : Nat} (hmm : mm < 4) {first : Int32} (hmf : mm = 0 ↔ first = -1) :
    ∃ mm' first' σ' T', KX1_game_46 (KX_fo 80) kk (n + 1) x0 (nI t) (nI u) w (nI mm) first (nI A) (nI B) σ = KX1_game_46 (KX_fo 80) kk n x0 (nI t) (nI u) w (nI mm') first' (nI A) (nI (B + 1)) σ' ∧ J_game_59 (n' + 1) (nI t) (nI u) w (nI mm) first (nI k) T = J_game_59 n' (nI t) (nI u) w (nI mm') first' (nI (k + 1)) T' ∧ mm' ≤ mm + 1 ∧ (mm' = 0 ↔ first' = -1) ∧ isQ x0 h0 pa va ca P R lo σ' T' ∧ T'.1 0 = 0 ∧ fa (fun q => q = va) 33 294 σ σ' ∧ jq T T' := by
  have h8 := ev_8 Q.1
  have h10 := ev_10 Q.1
  have hA1 : nI 1 - nI A = nI (1 - A) := pk_sub (by omega)
  have hB1 : nI 1 - nI B = nI (1 - B) := pk_sub (by omega)
  obtain ⟨σ1, b1, s1, a1, a2, a3, H1, F1⟩ := K_gains Q ht hu htu (nI A) (nI B)
  have Q1 := Q.k H1 F1
  obtain ⟨σ2, b2, s2, c1, c2, c3, H2, F2⟩ := K_gains Q1 ht hu htu (nI (1 - A)) (nI B)
  have Q2 := Q1.k H2 F2
  have hl := Q.lt
  have a3' : σ2.1 b1 = some (true, .inl (.int, 2, .inl (upd (upd (fun _ => 0) 0 (gnV P R t u (nI A) (nI B) t)) 1 (gnV P R t u (nI A) (nI B) u)))) := (F2.2 b1 a2 (show b1 ≠ va by omega)).trans a3
  have v2 : aI σ2 .int b2 (nI 0) = some (gnV P R t u (nI (1 - A)) (nI B) t) := aI_at c3 (by omega) (by omega)
  have v1 : aI σ2 .int b1 (nI 0) = some (gnV P R t u (nI A) (nI B) t) := aI_at a3' (by omega) (by omega)
  obtain ⟨T1, u1, g1, y1⟩ := J_gains_e Q.cx h8 h10 Q.rw Q.tp Q.inv ht hu htu (A := 1 - A) (B := B) (by omega) hB
  obtain ⟨T2, u2, g2, y2⟩ := J_gains_e Q.cx h8 h10 (Q.rw.jq g1) (Q.tp.jq g1) Q.inv ht hu htu (A := A) (B := B) hA hB
  have dA : dvI (nI k) (nI 2) = some (nI A) := by rw [dv_n (by omega) (by omega), pk_div (by omega) (by omega) (by omega), show k / 2 = A by omega]
  have rB : rmI (nI k) (nI 2) = some (nI B) := by
    unfold rmI
    rw [if_neg (nI_ne0 (by omega) (by omega)), pk_rem (by omega) (by omega) (by omega), show k % 2 = B by omega]
  have hK : KX1_game_46 (KX_fo 80) kk (n + 1) x0 (nI t) (nI u) w (nI mm) first (nI A) (nI B) σ = BKX1_game_46 (KX_fo 80) kk (KX1_game_46 (KX_fo 80) kk n) x0 (nI t) (nI u) w (nI mm) first (nI A) (nI B) σ := rfl
  have hJ : J_game_59 (n' + 1) (nI t) (nI u) w (nI mm) first (nI k) T = B_game_59 (J_game_59 n') (nI t) (nI u) w (nI mm) first (nI k) T := rfl
  rw [hK, hJ]
  unfold BKX1_game_46 B_game_59 KX1_game_124 KX1_game_127 J_game_149
  rw [if_neg (nI_ge (show B < 2 by omega) (by omega)), if_neg (nI_ge (show k < 4 by omega) (by omega))]
  simp only [ev_x Q.1, s1, ev_x H1, hA1, s2, v2, v1, dA, rB, u1, u2, nI_add, bdS]
  by_cases c1 : gnV P R t u (nI A) (nI B) t < gnV P R t u (nI (1 - A)) (nI B) t
  · rw [if_pos c1, if_pos c1]
    exact ⟨mm, first, σ2, T2, rfl, rfl, by omega, hmf, Q2.j (g1.tr g2), y2.trans (y1.trans hz), (F1.tr F2 (fun _ _ h => h)).mo (fun _ h => h) (by omega) (by omega), g1.tr g2⟩
  · rw [if_neg c1, if_neg c1]
    obtain ⟨σ3, b3, s3, d1, d2, d3, H3, F3⟩ := K_gains Q2 ht hu htu (nI A) (nI (1 - B))
    have Q3 := Q2.k H3 F3
    have hl2 : b1 < σ2.2.1 := by have := F2.1; omega
    have a3'' : σ3.1 b1 = some (true, .inl (.int, 2, .inl (upd (upd (fun _ => 0) 0 (gnV P R t u (nI A) (nI B) t)) 1 (gnV P R t u (nI A) (nI B) u)))) := (F3.2 b1 hl2 (show b1 ≠ va by omega)).trans a3'
    have v3 : aI σ3 .int b3 (nI 1) = some (gnV P R t u (nI A) (nI (1 - B)) u) := aI_at d3 (by omega) (by omega)
    have v4 : aI σ3 .int b1 (nI 1) = some (gnV P R t u (nI A) (nI B) u) := aI_at a3'' (by omega) (by omega)
    have gA := g1.tr g2
    obtain ⟨T3, u3, g3, y3⟩ := J_gains_e Q.cx h8 h10 (Q.rw.jq gA) (Q.tp.jq gA) Q.inv hu ht (fun e => htu e.symm) (A := 1 - B) (B := A) (by omega) hA
    obtain ⟨T4, u4, g4, y4⟩ := J_gains_e Q.cx h8 h10 ((Q.rw.jq gA).jq g3) ((Q.tp.jq gA).jq g3) Q.inv hu ht (fun e => htu e.symm) (A := B) (B := A) hB hA
    rw [gnV_sym htu] at u3 u4
    have gB := (gA.tr g3).tr g4
    have QB := Q3.j gB
    have zB : T4.1 0 = 0 := y4.trans (y3.trans (y2.trans (y1.trans hz)))
    have FB : fa (fun q => q = va) 33 294 σ σ3 := ((F1.tr F2 (fun _ _ h => h)).tr F3 (fun _ _ h => h)).mo (fun _ h => h) (by omega) (by omega)
    simp only [ev_x H2, hB1, s3, v3, v4, u3, u4, bdS]
    by_cases c2 : gnV P R t u (nI A) (nI (1 - B)) u ≤ gnV P R t u (nI A) (nI B) u
    · rw [if_pos c2, if_pos c2]
      by_cases c3 : mm = 0
      · have c4 := hmf.mp c3
        rw [if_pos (by rw [c3]; exact nI_0), if_pos c4]
        refine ⟨mm + 1, nI 10 * nI A + nI B, σ3, T4, rfl, rfl, Nat.le_refl _, ⟨fun h => by omega, fun h => ?_⟩, QB, zB, FB, gB⟩
        rw [pk_mul, nI_add] at h
        exact absurd h (nI_m1 (by omega))
      · have c4 : ¬ first = -1 := fun h => c3 (hmf.mpr h)
        rw [if_neg (nI_ne0 (by omega) (by omega)), if_neg c4]
        exact ⟨mm + 1, first, σ3, T4, rfl, rfl, Nat.le_refl _, ⟨fun h => by omega, fun h => absurd h c4⟩, QB, zB, FB, gB⟩
    · rw [if_neg c2, if_neg c2]
      exact ⟨mm, first, σ3, T4, rfl, rfl, by omega, hmf, QB, zB, FB, gB⟩
theorem o_game (Q : isQ x0 h0 pa va ca P R lo σ T) (x1 x2 x3 : Int32) : ans va 150 1500 [(nse, nI 1), (iae, nI 2)] σ T (KX1_game (KX_fo 80) x0 x1 x2 x3 σ) (J_game x1 x2 x3 T) := by
  obtain ⟨T0, e0, Q0, hz, f0⟩ := Q.z
  unfold KX1_game J_game J_game_48
  simp only [e0, bdS, ev_x Q0.1]
  rcases g_town Q0.1 Q0.tp hz x1 with ⟨t, ht, rfl, k1, j1⟩ | ⟨k1, j1⟩
  · rcases g_town Q0.1 Q0.tp hz x2 with ⟨u, hu, rfl, k2, j2⟩ | ⟨k2, j2⟩
    · rcases g_what (σ := σ) hz x3 (m := 1) (by omega) with ⟨w, hw, rfl, k3, j3⟩ | ⟨k3, j3⟩
      · have h8 := ev_8 Q0.1
        simp only [k1, j1, k2, j2, k3, j3, ev_x Q0.1, xbL, bdS, if_neg s1_ne]
        unfold KX1_game_25 J_game_41 J_game_48
        by_cases htu : t = u
        · subst htu
          rw [if_pos rfl, if_pos rfl]
          simp only [K_right0, J_right0 hz (c := nI 2) (by decide), xbR, bdS, if_pos nI_0]
          exact ans.th (List.mem_cons_of_mem _ (List.mem_cons_self ..)) F_s (by omega) (by omega) Q0.1.ov (f0.tr jq.t0)
        · rw [if_neg (nI_nn htu (by omega) (by omega)), if_neg (nI_nn htu (by omega) (by omega))]
          simp only [K_right1, J_right1 hz, xbL, bdS, if_neg s1_ne]
          have hN : NN = 99994 + 1 + 1 + 1 + 1 + 1 + 1 := rfl
          obtain ⟨m1, w1, σ1, T1, s1, u1, l1, d1, Q1, z1, F1, g1⟩ := game_step (n := 99994 + 1 + 1 + 1 + 1 + 1) (n' := 99994 + 1 + 1 + 1 + 1 + 1) Q0 hz ht hu htu (nI w) (KX1_game_37 (KX_fo 80) (99994 + 1 + 1 + 1 + 1 + 1)) (A := 0) (B := 0) (k := 0) (by omega) (by omega) (by omega) (mm := 0) (by omega) (first := -1) ⟨fun _ => rfl, fun _ => rfl⟩
          obtain ⟨m2, w2, σ2, T2, s2, u2, l2, d2, Q2, z2, F2, g2⟩ := game_step (n := 99994 + 1 + 1 + 1 + 1) (n' := 99994 + 1 + 1 + 1 + 1) Q1 z1 ht hu htu (nI w) (KX1_game_37 (KX_fo 80) (99994 + 1 + 1 + 1 + 1 + 1)) (A := 0) (B := 1) (k := 1) (by omega) (by omega) (by omega) (mm := m1) (by omega) (first := w1) d1
          obtain ⟨m3, w3, σ3, T3, s3, u3, l3, d3, Q3, z3, F3, g3⟩ := game_step (n := 99994 + 1 + 1 + 1 + 1 + 1) (n' := 99994 + 1 + 1 + 1) Q2 z2 ht hu htu (nI w) (KX1_game_37 (KX_fo 80) (99994 + 1 + 1 + 1 + 1)) (A := 1) (B := 0) (k := 2) (by omega) (by omega) (by omega) (mm := m2) (by omega) (first := w2) d2
          obtain ⟨m4, w4, σ4, T4, s4, u4, l4, d4, Q4, z4, F4, g4⟩ := game_step (n := 99994 + 1 + 1 + 1 + 1) (n' := 99994 + 1 + 1) Q3 z3 ht hu htu (nI w) (KX1_game_37 (KX_fo 80) (99994 + 1 + 1 + 1 + 1)) (A := 1) (B := 1) (k := 3) (by omega) (by omega) (by omega) (mm := m3) (by omega) (first := w3) d3
          have o37 : ∀ (n A : Nat) (mm : Nat) (f : Int32) (σ : vv_S), A < 2 → KX1_game_37 (KX_fo 80) (n + 1) x0 (nI t) (nI u) (nI w) (nI mm) f (nI A) σ = KX1_game_46 (KX_fo 80) (KX1_game_37 (KX_fo 80) n) NN x0 (nI t) (nI u) (nI w) (nI mm) f (nI A) (nI 0) σ := by
            intro n A mm f σ hA
            show BKX1_game_37 (KX_fo 80) (KX1_game_37 (KX_fo 80) n) x0 (nI t) (nI u) (nI w) (nI mm) f (nI A) σ = _
            unfold BKX1_game_37
            rw [if_neg (nI_ge hA (by omega))]
          have e46 : ∀ (n A mm : Nat) (f : Int32) (kk : Nat → Int32 → Int32 → Int32 → Int32 → Int32 → Int32 → vv_S → Option (hX (Int32 × vv_S))) (σ : vv_S), KX1_game_46 (KX_fo 80) kk (n + 1) x0 (nI t) (nI u) (nI w) (nI mm) f (nI A) (nI 2) σ = kk x0 (nI t) (nI u) (nI w) (nI mm) f (nI (A + 1)) σ := by
            intro n A mm f kk σ
            show BKX1_game_46 (KX_fo 80) kk (KX1_game_46 (KX_fo 80) kk n) x0 (nI t) (nI u) (nI w) (nI mm) f (nI A) (nI 2) σ = _
            unfold BKX1_game_46
            rw [if_pos (nI_le (Nat.le_refl _) (by omega)), nI_add]
          have kA : KX1_game_37 (KX_fo 80) NN x0 (nI t) (nI u) (nI w) (nI 0) (-1) (nI 0) σ = some (.inl (if nI w = 0 then nI m4 else w4, σ4)) := by
            rw [hN, o37 _ 0 0 _ _ (by omega), hN, s1, s2, e46, o37 _ 1 _ _ _ (by omega), hN, s3, s4, e46]
            show BKX1_game_37 (KX_fo 80) (KX1_game_37 (KX_fo 80) _) x0 (nI t) (nI u) (nI w) (nI m4) w4 (nI 2) σ4 = _
            unfold BKX1_game_37 KX1_game_150
            rw [if_pos (nI_le (Nat.le_refl _) (by omega))]
            split <;> rfl
          have jA : J_game_59 NN (nI t) (nI u) (nI w) (nI 0) (-1) (nI 0) T0 = some (if nI w = 0 then nI m4 else w4, T4) := by
            rw [hN, u1, u2, u3, u4]
            show B_game_59 (J_game_59 _) (nI t) (nI u) (nI w) (nI m4) w4 (nI 4) T4 = _
            unfold B_game_59 J_game_166
            rw [if_pos (nI_le (Nat.le_refl _) (by omega))]
            split <;> rfl
          rw [kA, jA]
          exact ans.ok z4 ((((F1.tr F2 (fun _ _ h => h)).tr F3 (fun _ _ h => h)).tr F4 (fun _ _ h => h)).mo (fun _ h => h) (by omega) (by omega)) Q4.1.ov ((((f0.tr g1).tr g2).tr g3).tr g4)
      · simp only [k1, j1, k2, j2, k3, j3, ev_x Q0.1, xbL, xbR, bdS, if_neg s1_ne, if_pos nI_0]
        exact ans.th (List.mem_cons_self ..) F_s (by omega) (by omega) Q0.1.ov (f0.tr jq.t0)
    · simp only [k1, j1, k2, j2, ev_x Q0.1, xbL, xbR, bdS, if_neg s1_ne, if_pos nI_0]
      exact ans.th (List.mem_cons_self ..) F_s (by omega) (by omega) Q0.1.ov (f0.tr jq.t0)
  · simp only [k1, j1, xbR, bdS, if_pos nI_0]
    exact ans.th (List.mem_cons_self ..) F_s (by omega) (by omega) Q0.1.ov (f0.tr jq.t0)
end QG
