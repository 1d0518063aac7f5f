/-! the plain law: years by chance, both -/
set_option maxRecDepth 100000
/-- how many are gone -/
def gnF (e : Nat → Bool) (k : Nat) (v : Nat) : Nat := if e k = true then v + 1 else v
theorem gn_e {e : Nat → Bool} {k v : Nat} {b : Bool} (h : e k = b) : gnF e k v = v + b.toNat := by
  unfold gnF
  cases b with
  | true => rw [if_pos h]; rfl
  | false => rw [if_neg (by rw [h]; decide)]; rfl
theorem gn_pc {e : Nat → Bool} {cr m : Nat} (h10 : cr ≤ 10) (hm : ∀ t, m.testBit t = (decide (t < cr) && e t)) : lp (gnF e) cr 0 0 = pcN m := by
  have e1 : lp (gnF e) cr 0 0 = lp (gnF fun k => m.testBit k) cr 0 0 := lp_congr _ _ _ fun k _ h2 y => by
    have h : m.testBit k = e k := by rw [hm, decide_eq_true (show k < cr by omega)]; rfl
    rw [gn_e (e := e) rfl, gn_e (e := fun k => m.testBit k) h]
  have e2 : lp (gnF fun k => m.testBit k) 10 0 0 = lp (gnF fun k => m.testBit k) cr 0 0 := by
    have h := lp_add (f := gnF fun k => m.testBit k) cr (10 - cr) 0 0
    rw [show cr + (10 - cr) = 10 by omega] at h
    rw [h]
    exact lp_id _ _ _ fun k h1 _ y => by
      have h : m.testBit k = false := by rw [hm, decide_eq_false (show ¬ k < cr by omega)]; rfl
      rw [gn_e (e := fun k => m.testBit k) h]
      rfl
  have e3 : ∀ k v, gnF (fun k => m.testBit k) k v = v + (m.testBit k).toNat := fun k v => gn_e rfl
  rw [e1, ← e2]
  show gnF (fun k => m.testBit k) 9 (gnF (fun k => m.testBit k) 8 (gnF (fun k => m.testBit k) 7 (gnF (fun k => m.testBit k) 6 (gnF (fun k => m.testBit k) 5 (gnF (fun k => m.testBit k) 4 (gnF (fun k => m.testBit k) 3 (gnF (fun k => m.testBit k) 2 (gnF (fun k => m.testBit k) 1 (gnF (fun k => m.testBit k) 0 0))))))))) = _
  simp only [e3, Nat.zero_add]
  rfl
section YZ
variable {σ : vv_S} {T : tw_T} {x0 pa va ca a : Nat} {h0 : Nat → Option vv_E} {P : pvT} {R : Nat → Int32} {lo : Int32} {fs : List Value} {s : Int32}
theorem K_gone (H : isEnv σ x0 h0 pa va P) (h : isCo σ x0 a R lo) : ∀ (c i n v : Nat), i + c = P.1.2.2 → c < n → KX1_years_139 (KX_fo 80) n x0 a (nI v) (nI i) σ = some (.inl (nI (lp (gnF fun k => decide (R (55 + k) = -1)) c i v), σ)) := by
  have h10 := ev_10 H
  intro c
  induction c with
  | zero =>
    intro i n v hi hn
    obtain ⟨n, rfl⟩ : ∃ m, n = m + 1 := ⟨n - 1, by omega⟩
    show BKX1_years_139 (KX_fo 80) (KX1_years_139 (KX_fo 80) n) x0 a (nI v) (nI i) σ = _
    unfold BKX1_years_139
    simp only [ev_pa H, ev_cr H, bdS]
    rw [if_pos (nI_le (by omega) (by omega))]
    rfl
  | succ c ih =>
    intro i n v hi hn
    obtain ⟨n, rfl⟩ : ∃ m, n = m + 1 := ⟨n - 1, by omega⟩
    have e := ih (i + 1) n (gnF (fun k => decide (R (55 + k) = -1)) i v) (by omega) (by omega)
    show BKX1_years_139 (KX_fo 80) (KX1_years_139 (KX_fo 80) n) x0 a (nI v) (nI i) σ = some (.inl (nI (lp (gnF fun k => decide (R (55 + k) = -1)) c (i + 1) (gnF (fun k => decide (R (55 + k) = -1)) i v)), σ))
    rw [← e]
    unfold BKX1_years_139 KX1_years_166 gnF
    have l6 : aI σ .int (a + 1 + 6) (nI i) = some (R (55 + i)) := co_aI h (j := 6) (by decide) (show i < 10 by omega)
    simp only [ev_pa H, ev_cr H, co_R h (j := 6) (by decide), l6, nI_add, bdS]
    rw [if_neg (nI_ge (show i < P.1.2.2 by omega) (by omega))]
    by_cases h1 : R (55 + i) = -1
    · rw [if_pos h1, if_pos (decide_eq_true h1)]
    · rw [if_neg h1, if_neg (by rw [decide_eq_false h1]; decide)]
theorem J_gone (h : isRw T 85 R) (hP : isTp T P) (h10 : P.1.2.2 ≤ 10) : ∀ (c i n : Nat) (v : Int32), i + c = P.1.2.2 → c < n → J_goneIn_4 n (nI 85) v (nI i) T = some (lp (bF fun k => decide (R (55 + k) = -1)) c i v, T) := by
  intro c
  induction c with
  | zero =>
    intro i n v hi hn
    obtain ⟨n, rfl⟩ : ∃ m, n = m + 1 := ⟨n - 1, by omega⟩
    show B_goneIn_4 (J_goneIn_4 n) (nI 85) v (nI i) T = _
    unfold B_goneIn_4
    rw [hP.2.2.1, if_pos (nI_le (by omega) (by omega))]
    rfl
  | succ c ih =>
    intro i n v hi hn
    obtain ⟨n, rfl⟩ : ∃ m, n = m + 1 := ⟨n - 1, by omega⟩
    have e := ih (i + 1) n (bF (fun k => decide (R (55 + k) = -1)) i v) (by omega) (by omega)
    show B_goneIn_4 (J_goneIn_4 n) (nI 85) v (nI i) T = some (lp (bF fun k => decide (R (55 + k) = -1)) c (i + 1) (bF (fun k => decide (R (55 + k) = -1)) i v), T)
    rw [← e]
    unfold B_goneIn_4 J_goneIn_35 bF
    rw [hP.2.2.1, if_neg (nI_ge (show i < P.1.2.2 by omega) (by omega))]
    simp only [nI_add, rd85 h (show 55 + i < 85 by omega) (show 85 + 55 + i = 85 + (55 + i) by omega) (us_cp hP (by omega) (by omega) (by omega)), bdS]
    by_cases h1 : R (55 + i) = -1
    · rw [if_pos h1, if_pos (decide_eq_true h1)]
    · rw [if_neg h1, if_neg (by rw [decide_eq_false h1]; decide), or_0]
/-- the days of the years -/
theorem y_loop (cx : six P ∧ invP P) (hl : fs.length = 15) (h00 : h0 x0 = none) (hd : ∀ q, coA a q → h0 q = none) {m w : Nat} (hm : m ≤ 60) (hw : w ≤ 2) : ∀ (c i n : Nat) (σ : vv_S) (T : tw_T) (R : Nat → Int32) (s : Int32), yB x0 h0 pa va P fs a R s σ T → i + c = m → c < n → ∃ v s' σ' T', KX1_years_32 (KX_fo 80) n x0 (nI m) (nI w) a (nI i) σ = some (.inl (v, σ')) ∧ J_years_38 n (nI m) (nI w) (nI i) T = some (v, T') ∧ isEnv σ' x0 h0 pa va P ∧ sdX x0 fs s' σ' ∧ fr (coX a va x0) σ σ' ∧ jy T T' := by
  intro c
  induction c with
  | zero =>
    intro i n σ T R s B hi hn
    obtain ⟨n, rfl⟩ : ∃ m, n = m + 1 := ⟨n - 1, by omega⟩
    obtain ⟨lo, H, c0, x0', r0, p0, i0, t0⟩ := B
    have h8 := ev_8 H
    have h10 := ev_10 H
    show ∃ v s' σ' T', BKX1_years_32 (KX_fo 80) (KX1_years_32 (KX_fo 80) n) x0 (nI m) (nI w) a (nI i) σ = _ ∧ B_years_38 (J_years_38 n) (nI m) (nI w) (nI i) T = _ ∧ _
    unfold BKX1_years_32 B_years_38 KX1_years_132 J_years_167
    rw [if_pos (nI_le (show m ≤ i by omega) (by omega)), if_pos (nI_le (show m ≤ i by omega) (by omega))]
    rcases (show w = 0 ∨ w = 1 ∨ w = 2 by omega) with rfl | rfl | rfl
    · have k1 : KX3_sum a (a + 1 + 2) σ = some (sumR P R 17) := K_sum H c0 (j := 2) (by decide)
      have j1 : J_allOf (nI 102) T = some (sumR P R 17, T) := J_all_e r0 (by omega) p0 h8 (s := 17) (by omega)
      rw [if_neg (by decide), if_pos nI_0, if_pos nI_0]
      simp only [co_R c0 (j := 2) (by decide), co_o c0, k1, j1, bdS]
      exact ⟨_, s, σ, T, rfl, rfl, H, x0', fr.rf, jy.rf⟩
    · have k1 : KX3_sum a (a + 1 + 0) σ = some (sumR P R 1) := K_sum H c0 (j := 0) (by decide)
      have j1 : J_allOf (nI 86) T = some (sumR P R 1, T) := J_all_e r0 (by omega) p0 h8 (s := 1) (by omega)
      rw [if_neg (by decide), if_neg s1_ne, if_neg s1_ne, if_pos rfl]
      simp only [co_R c0 (j := 0) (by decide), co_o c0, k1, j1, bdS]
      exact ⟨_, s, σ, T, rfl, rfl, H, x0', fr.rf, jy.rf⟩
    · obtain ⟨b, b1, b2, b3⟩ := lpB (e := fun k => decide (R (55 + k) = -1)) P.1.2.2 0 0 (by omega) (by decide)
      have hb : b < 1024 := by
        rw [Nat.zero_add] at b1
        exact Nat.lt_of_lt_of_le b1 (by rw [show (1024 : Nat) = 2 ^ 10 from rfl]; exact Nat.pow_le_pow_right (by omega) h10)
      have hg := gn_pc (m := b) (e := fun k => decide (R (55 + k) = -1)) h10 (fun t => by rw [b3, Nat.zero_testBit, Nat.zero_add, decide_eq_true (Nat.zero_le t), Bool.false_or, Bool.true_and])
      have k1 := K_gone H c0 P.1.2.2 0 NN 0 (by omega) (by unfold NN; omega)
      have j1 : J_goneIn (nI 85) T = some (nI b, T) := by rw [← b2]; exact J_gone r0 p0 h10 P.1.2.2 0 NN (nI 0) (by omega) (by unfold NN; omega)
      have j2 : J_bits (nI b) = some (nI (pcN b)) := by rw [bits_all b hb, pc_bc b hb]
      rw [hg] at k1
      rw [if_pos (by decide), if_neg (by decide), if_neg (by decide)]
      simp only [k1, j1, j2, bdS]
      exact ⟨_, s, σ, T, rfl, rfl, H, x0', fr.rf, jy.rf⟩
  | succ c ih =>
    intro i n σ T R s B hi hn
    obtain ⟨n, rfl⟩ : ∃ m, n = m + 1 := ⟨n - 1, by omega⟩
    -- a day, whatever was stolen
    have day : ∀ (σ1 : vv_S) (T1 : tw_T) (R1 : Nat → Int32) (s1 : Int32), yB x0 h0 pa va P fs a R1 s1 σ1 T1 → fr (coX a va x0) σ σ1 → jy T T1 → ∃ v s' σ' T', KX1_years_87 (KX_fo 80) (KX1_years_32 (KX_fo 80) n) x0 (nI m) (nI w) a (nI i) σ1 = some (.inl (v, σ')) ∧ ((J_cratesGo (nI 85) T1).bind fun r9 => J_years_57 (J_years_38 n) NN (nI m) (nI w) (nI i) (nI 0) r9) = some (v, T') ∧ isEnv σ' x0 h0 pa va P ∧ sdX x0 fs s' σ' ∧ fr (coX a va x0) σ σ' ∧ jy T T' := by
      intro σ1 T1 R1 s1 B1 f1 g1
      obtain ⟨lo1, H1, c1, x1', r1, p1, i1, t1⟩ := B1
      have h8 := ev_8 H1
      have h10 := ev_10 H1
      obtain ⟨σ2, s2, H2, c2, f2⟩ := K_crate_loop (nI 1) hd P.1.2.2 0 NN σ1 R1 H1 c1 (by omega) (by unfold NN; omega)
      obtain ⟨T2, u2, r2, g2⟩ := J_crates_loop (b := 85) (by omega) h10 P.1.2.2 0 NN T1 R1 r1 p1 i1 (by omega) (by unfold NN; omega)
      have u2 : J_cratesGo (nI 85) T1 = some T2 := u2
      have s2 : KX3_pass (KX_fo 80) a (nI 1) σ1 = KX3_pass_42 (KX_fo 80) NN a (nI 1) (nI 0) σ2 := s2
      obtain ⟨σ3, T3, R3, s3', s3, u3, B3, f3, g3⟩ := y_towns cx hl h00 hd (J_years_38 n) (nI m) (nI w) (nI i) P.1.1 0 NN NN σ2 T2 _ s1 ⟨_, H2, c2, x1'.f f2 (ev_xco H1 c1), r2, p1.jf g2, inv_crates _ _ _ i1 (by omega), (g2.2.1 56 (by decide)).trans t1⟩ (by omega) (by unfold NN; omega) (by unfold NN; omega)
      obtain ⟨v, s4', σ4, T4, s4, u4, H4, x4', f4, g4⟩ := ih (i + 1) n σ3 T3 R3 s3' B3 (by omega) (by omega)
      refine ⟨v, s4', σ4, T4, ?_, ?_, H4, x4', ((f1.tr (f2.mo fun q hq => Or.inl (Or.inl hq))).tr f3).tr f4, ((g1.tr (jy.jf g2)).tr g3).tr g4⟩
      · unfold KX1_years_87
        simp only [co_o c1, s2, s3, nI_add, s4, bdS]
      · rw [u2]
        show J_years_57 (J_years_38 n) NN (nI m) (nI w) (nI i) (nI 0) T2 = _
        rw [u3, nI_add, u4]
    obtain ⟨lo, H, c0, x0', r0, p0, i0, t0⟩ := B
    have h8 := ev_8 H
    have h10 := ev_10 H
    show ∃ v s' σ' T', BKX1_years_32 (KX_fo 80) (KX1_years_32 (KX_fo 80) n) x0 (nI m) (nI w) a (nI i) σ = _ ∧ B_years_38 (J_years_38 n) (nI m) (nI w) (nI i) T = _ ∧ _
    unfold BKX1_years_32 B_years_38 J_steals J_steals_16
    rw [if_neg (nI_ge (show i < m by omega) (by omega)), if_neg (nI_ge (show i < m by omega) (by omega))]
    obtain ⟨v, hv, ev⟩ := dr_e (sdF s) (m := 9) (by omega) (by omega)
    obtain ⟨σ1, s1, x1', H1, f1⟩ := K_draw H x0' hl h00 ev
    have u1 := J_draw_e t0 ev
    have c1 := co_x H c0 f1
    have p1 : isTp (tw_F T 56 (sdF s)) P := p0.jq (jy.s (T := T)).1
    have r1 : isRw (tw_F T 56 (sdF s)) 85 R := r0.of rfl (F_n (by decide)) (F_n (by decide))
    simp only [ev_x H, s1, u1, bdS]
    by_cases h1 : v = 0
    · rw [if_pos (by rw [h1]; exact nI_0), if_pos (by rw [h1]; exact nI_0)]
      simp only [ev_pa H1, ev_cr H1, ev_x H1, p1.2.2.1, bdS]
      by_cases h2 : P.1.2.2 = 0
      · rw [if_pos (by rw [h2, nI_0, ti_le]; exact Int.le_refl _), if_pos (by rw [h2]; exact nI_0)]
        exact day σ1 _ R (sdF s) ⟨lo, H1, c1, x1', r1, p1, i0, F_s⟩ (f1.mo fun q hq => Or.inr hq) jy.s
      · rw [if_neg (nI_nle (by omega) (by omega)), if_neg (nI_ne0 (by omega) (by omega))]
        obtain ⟨k, hk, ek⟩ := dr_e (sdF (sdF s)) (m := P.1.2.2) (by omega) (by omega)
        obtain ⟨σ2, s2, x2', H2, f2⟩ := K_draw H1 x1' hl h00 ek
        have u2 := J_draw_e (T := tw_F T 56 (sdF s)) F_s ek
        have c2 := co_x H1 c1 f2
        have p2 : isTp (tw_F (tw_F T 56 (sdF s)) 56 (sdF (sdF s))) P := p1.jq (jy.s (T := tw_F T 56 (sdF s))).1
        have r2 : isRw (tw_F (tw_F T 56 (sdF s)) 56 (sdF (sdF s))) 85 R := r1.of rfl (F_n (by decide)) (F_n (by decide))
        have fA : fr (coX a va x0) σ σ2 := (f1.mo fun q hq => Or.inr hq).tr (f2.mo fun q hq => Or.inr hq)
        have gA : jy T (tw_F (tw_F T 56 (sdF s)) 56 (sdF (sdF s))) := jy.s.tr jy.s
        simp only [s2, u2, co_o c2, K_lies c2 (show k < 10 by omega), J_lies_e r2 (by omega) p2.2.2.1 hk (by omega), bdS]
        by_cases h3 : liesR R k
        · rw [if_pos h3, if_neg s1_ne, if_neg s1_ne]
          obtain ⟨σ3, s3, c3, f3⟩ := K_lose c2 (k := k) (by omega)
          obtain ⟨T3, u3, r3, g3⟩ := rw_st r2 (by omega) (k := 25 + k) (v := nI 0) (by omega)
          obtain ⟨T4, u4, r4, g4⟩ := rw_st r3 (by omega) (k := 55 + k) (v := -1) (by omega)
          have u3 : stA (tw_F (tw_F T 56 (sdF s)) 56 (sdF (sdF s))) 20 170 (nI 110 + nI k) (nI 0) = some T3 := by rw [nI_add, show 110 + k = 85 + (25 + k) by omega]; exact u3
          have u4 : stA T3 20 170 (nI 140 + nI k) (-1) = some T4 := by rw [nI_add, show 140 + k = 85 + (55 + k) by omega]; exact u4
          have r5 : isRw T4 85 (loseR R k) := fun q hq hu => by
            rw [r4 q hq hu]
            unfold loseR
            by_cases e : q = 65 + k
            · subst e
              rw [upd_s, upd_n (by omega), upd_n (by omega), h3.2]; rfl
            · rw [upd_n e]
          simp only [s3, u3, u4, bdS]
          exact day σ3 T4 (loseR R k) _ ⟨lo, ev_co H2 c2 hd f3, c3, x2'.f f3 (ev_xco H2 c2), r5, (p2.jf g3).jf g4, inv_lose i0 (by omega), (g4.2.1 56 (by decide)).trans ((g3.2.1 56 (by decide)).trans F_s)⟩ (fA.tr (f3.mo fun q hq => Or.inl (Or.inl hq))) ((gA.tr (jy.jf g3)).tr (jy.jf g4))
        · rw [if_neg h3, if_pos nI_0, if_pos nI_0]
          exact day σ2 _ R _ ⟨lo, H2, c2, x2', r2, p2, i0, F_s⟩ fA gA
    · rw [if_neg (nI_ne0 (by omega) (by omega)), if_neg (nI_ne0 (by omega) (by omega))]
      exact day σ1 _ R (sdF s) ⟨lo, H1, c1, x1', r1, p1, i0, F_s⟩ (f1.mo fun q hq => Or.inr hq) jy.s
/-- both answer alike; the row of values and the seed have changed -/
def ansY (va x0 n m : Nat) (fs : List Value) (cs : List (String × Int32)) (σ : vv_S) (T : tw_T) (k : Option (hX (Int32 × vv_S))) (j : Option (Int32 × tw_T)) : Prop :=
  (∃ v σ' T', k = some (.inl (v, σ')) ∧ j = some (v, T') ∧ T'.1 0 = 0 ∧ (∃ s, sdX x0 fs s σ') ∧ fa (fun q => q = va ∨ q = x0) n m σ σ' ∧ okV σ' va ∧ jq T T') ∨
  ∃ C c q σ' w T', (C, c) ∈ cs ∧ k = some (.inr ((C, q), σ')) ∧ j = some (w, T') ∧ T'.1 0 = c ∧ fa (fun q => q = va) n m σ σ' ∧ okV σ' va ∧ jq T T'
theorem ansY.th {x0 va n m : Nat} {fs : List Value} {cs : List (String × Int32)} {σ : vv_S} {T T' : tw_T} {w c : Int32} {C : String} (hc : (C, c) ∈ cs) (h1 : T'.1 0 = c) (hn : 1 ≤ n) (hm : 6 ≤ m) (h3 : okV σ va) (h4 : jq T T') : ansY va x0 n m fs cs σ T (some (.inr ((C, σ.2.1), tS σ))) (some (w, T')) := Or.inr ⟨C, c, σ.2.1, tS σ, w, T', hc, rfl, rfl, h1, fa_tS.mo (fun _ h => h) hn hm, h3, h4⟩
theorem o_years (Q : isQ x0 h0 pa va ca P R lo σ T) (hx : σ.1 x0 = some (true, .inr (0, fs))) (hl : fs.length = 15) (h00 : h0 x0 = none) (x1 x2 x3 : Int32) : ansY va x0 20 200 fs [(nse, nI 1), (iae, nI 2)] σ T (KX1_years (KX_fo 80) x0 x1 x2 x3 σ) (J_years x1 x2 x3 T) := by
  obtain ⟨T0, e0, Q0, hz, f0⟩ := Q.z
  unfold KX1_years J_years J_years_24
  simp only [e0, bdS]
  rcases g_what (σ := σ) (T := T0) hz x3 (m := 2) (by omega) with ⟨w, hw, rfl, k1, j1⟩ | ⟨k1, j1⟩
  · rcases g_days (T := T0) hz x2 (a := 0) (by omega) (c := nI 2) (by decide) with ⟨m, -, hm, rfl, k2, j2⟩ | ⟨k2, j2⟩
    · obtain ⟨σ1, s1, x1', H1, f1, hg⟩ := K_seed Q0.1 hx hl h00 x1
      have hxl := Q0.lt
      have c1 : isCo σ1 x0 ca R lo := co_x Q0.1 Q0.co f1
      have gc1 : gR σ1 x0 0 2 = some ca := by
        have h := Q0.gc
        unfold gR at h ⊢
        rw [hg 2 (by decide)]
        exact h
      obtain ⟨σ2, s2, c2, z2, u2⟩ := K_copy c1 (by rw [f1.1]; exact hxl.2.2)
      have z2a : σ1.2.1 = σ.2.1 := by rw [f1.1]
      rw [z2a] at s2 c2 z2 u2
      obtain ⟨T1, v1, r1, w1, g1⟩ := J_tries_e Q0.rw
      have H2 : isEnv σ2 x0 h0 pa va P := H1.up (fun q hq => Q0.dm q (by omega)) (by omega) (by omega) (fun q hq => u2 q (by omega))
      have x2' : sdX x0 fs x1 σ2 := (u2 x0 hxl.2.1).trans x1'
      have hd : ∀ q, coA σ.2.1 q → h0 q = none := fun q hq => Q0.dm q hq.1
      have p1 : isTp T1 P := Q0.tp.jf g1
      obtain ⟨v, s3', σ3, T3, s3, u3, H3, x3', f3, g3⟩ := y_loop Q0.cx hl h00 hd hm hw m 0 NN σ2 (tw_F T1 56 x1) R x1 ⟨0, H2, c2, x2', r1.of rfl, p1.jq (jy.s (T := T1)).1, Q0.inv, F_s⟩ (by omega) (by unfold NN; omega)
      simp only [k1, j1, xbL, bdS, if_neg s1_ne, k2, j2, K_right1, s1, gc1, co_o c1, s2, v1, s3, u3]
      refine Or.inl ⟨v, σ3, T3, rfl, rfl, ?_, ⟨_, x3'⟩, ⟨?_, fun q hq hn => ?_⟩, H3.ov, (f0.tr (jq.jf g1)).tr ((jy.s (T := T1)).1.tr g3.1)⟩
      · rw [g3.2]
        show (tw_F T1 56 x1).1 0 = 0
        rw [F_n (by decide), w1]
        exact hz
      · rw [f3.1, z2, f1.1]
        dsimp only
        omega
      · rw [f3.2 q (fun h => by
          rcases h with (h | h) | h
          · have h : σ.2.1 ≤ q ∧ q < σ.2.1 + 10 := h; omega
          · exact hn (Or.inl h)
          · exact hn (Or.inr h)), u2 q hq, f1.n1 (fun e => hn (Or.inr e))]
    · simp only [k1, j1, xbL, xbR, bdS, if_neg s1_ne, k2, j2, K_right0, if_pos nI_0]
      exact ansY.th (List.mem_cons_of_mem _ (List.mem_cons_self ..)) F_s (by omega) (by omega) Q0.1.ov (f0.tr jq.t0)
  · simp only [k1, j1, xbR, bdS, if_pos nI_0]
    exact ansY.th (List.mem_cons_self ..) F_s (by omega) (by omega) Q0.1.ov (f0.tr jq.t0)
end YZ
