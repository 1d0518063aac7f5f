/-! the plain law: a hold, whole -/
set_option maxRecDepth 100000
section HO
variable {σ : vv_S} {T : tw_T} {x0 pa va ca r : Nat} {h0 : Nat → Option vv_E} {P : pvT} {R : Nat → Int32} {lo : Int32} {all : Nat}
theorem cd_o {l b c : Nat} (h : cdB P R l b c = true) : l.testBit c = true ∧ hdH 100000 P.1.2.2 (hmN P R) (dif l (2 ^ c)) c + hmN P R b c = hdH 100000 P.1.2.2 (hmN P R) l b := by
  unfold cdB at h
  rw [Bool.and_eq_true] at h
  exact ⟨h.1, of_decide_eq_true h.2⟩
theorem hold_loop (B : hB x0 h0 pa va ca P R lo σ) (hr : isRw T 0 R) (hP : isTp T P) (hI : invR P R) (h10 : P.1.2.2 ≤ 10) (ha : all < 2 ^ P.1.2.2) (ha2 : all < 1024) {X : Nat → Nat → Nat} (M : isM σ r all P.1.2.2 X) (hXX : ∀ j q, j ≤ all → dif j all = 0 → q ≤ P.1.2.2 → X j q = hdH 100000 P.1.2.2 (hmN P R) j q) (hH : isHt P R all T 0) {I : Nat} (hI9 : I < 100) : ∀ (c j n n' s b : Nat), dif s all = 0 → b ≤ P.1.2.2 → (0 < j → b < P.1.2.2) → j + c = I + 1 → c ≤ pcN (dif all s) → c < n → c < n' → ∃ v, KX1_hold_63 n x0 (nI I) r (nI b) (nI (dif all s)) (nI j) σ = some (.inl (v, σ)) ∧ J_hold_139 n' (nI I) (nI all) (nI s) (lastI P b) (nI (hdH 100000 P.1.2.2 (hmN P R) (dif all s) b)) (nI j) T = some (v, T) := by
  intro c
  induction c with
  | zero =>
    intro j n n' s b hsa hb hjb hi hp hn hn'
    obtain ⟨n, rfl⟩ : ∃ m, n = m + 1 := ⟨n - 1, by omega⟩
    obtain ⟨n', rfl⟩ : ∃ m, n' = m + 1 := ⟨n' - 1, by omega⟩
    have hbl := hjb (by omega)
    refine ⟨nI b, ?_, ?_⟩
    · show BKX1_hold_63 (KX1_hold_63 n) x0 (nI I) r (nI b) (nI (dif all s)) (nI j) σ = _
      unfold BKX1_hold_63
      rw [if_pos (nI_lt (by omega) (by omega))]
    · show B_hold_139 (J_hold_139 n') (nI I) (nI all) (nI s) (lastI P b) (nI (hdH 100000 P.1.2.2 (hmN P R) (dif all s) b)) (nI j) T = _
      unfold B_hold_139
      rw [if_pos (nI_lt (by omega) (by omega))]
      unfold lastI
      rw [if_neg (by omega)]
  | succ c ih =>
    intro j n n' s b hsa hb hjb hi hp hn hn'
    obtain ⟨n, rfl⟩ : ∃ m, n = m + 1 := ⟨n - 1, by omega⟩
    obtain ⟨n', rfl⟩ : ∃ m, n' = m + 1 := ⟨n' - 1, by omega⟩
    have hdl := dif_le all s
    have hl2 : dif all s < 2 ^ P.1.2.2 := Nat.lt_of_le_of_lt hdl ha
    have hl0 : dif all s ≠ 0 := pc_0 _ (by omega) (by omega)
    have hlsub : dif (dif all s) all = 0 := dif_sub.mpr fun k hk => by
      rw [dif_tb] at hk
      cases h : all.testBit k
      · rw [h] at hk; cases hk
      · rfl
    obtain ⟨k, hk1, hk2, hk3⟩ := hd_next (f := 100000) (cr := P.1.2.2) (hm := hmN P R) hm_99 h10 (by omega) (b := b) hl2 hl0
    obtain ⟨k0, k1, k2, k3⟩ := (nd_is (cnd := cdB P R (dif all s) b) P.1.2.2 (-1)).1 ⟨k, hk1, by unfold cdB; rw [hk2, decide_eq_true hk3]; rfl⟩
    obtain ⟨hbit, hsum⟩ := cd_o k2
    have eK := K_sel B hI ha ha2 M hXX hlsub hb (nI I) (nI j) (KX1_hold_63 n) P.1.2.2 NN (-1) (Nat.le_refl _) (by unfold NN; omega)
    have eJ := J_sel hr hP hI h10 ha ha2 hH hsa hb (nI I) (nI j) (J_hold_139 n') P.1.2.2 NN (-1) (Nat.le_refl _) (by unfold NN; omega)
    rw [k3, bt_shl (show k0 < 31 by omega), dif_e, nI_add] at eK
    rw [k3] at eJ
    have hall : all.testBit k0 = true := by
      rw [dif_tb] at hbit
      cases h : all.testBit k0
      · rw [h] at hbit; cases hbit
      · rfl
    have hsn : s.testBit k0 ≠ true := fun h => by
      rw [dif_tb, h] at hbit
      cases h9 : all.testBit k0 <;> rw [h9] at hbit <;> cases hbit
    have hpc := pc_dif (dif all s) (by omega) k0 (by omega) hbit
    obtain ⟨v, e1, e2⟩ := ih (j + 1) n n' (s ||| 2 ^ k0) k0 (or_sub hsa hall) (by omega) (fun _ => k1) (by omega) (by rw [or_dif]; omega) (by omega) (by omega)
    rw [or_dif] at e1 e2
    have b2 := hd_b (f := 100000) (cr := P.1.2.2) (hm := hmN P R) hm_99 P.1.2.2 (dif all s) b hl2 (Nat.le_refl _)
    have b3 := hm_99 (P := P) (R := R) b k0
    have hlk : lastI P k0 = nI k0 := by unfold lastI; rw [if_neg (by omega)]
    rw [hlk] at e2
    refine ⟨v, ?_, ?_⟩
    · show BKX1_hold_63 (KX1_hold_63 n) x0 (nI I) r (nI b) (nI (dif all s)) (nI j) σ = _
      unfold BKX1_hold_63
      rw [if_neg (nI_nlt (by omega) (by omega))]
      simp only [ev_pa B.1, ev_cr B.1, ix_1 (show P.1.2.2 < 2 ^ 31 by omega), bdS]
      rw [eK]
      exact e1
    · show B_hold_139 (J_hold_139 n') (nI I) (nI all) (nI s) (lastI P b) (nI (hdH 100000 P.1.2.2 (hmN P R) (dif all s) b)) (nI j) T = _
      unfold B_hold_139
      rw [if_neg (nI_nlt (by omega) (by omega)), hP.2.2.1, ix_1 (show P.1.2.2 < 2 ^ 31 by omega), eJ]
      have go : ∀ q, q = hmN P R b k0 → J_hold_265 (J_hold_139 n') (nI (hdH 100000 P.1.2.2 (hmN P R) (dif all s) b)) (nI q) (nI I) (nI all) (nI s) (nI j) (nI k0) T = some (v, T) := by
        intro q hq
        unfold J_hold_265
        rw [hq, bt_shl (show k0 < 31 by omega), nI_or, nI_add, pk_sub (by omega), show hdH 100000 P.1.2.2 (hmN P R) (dif all s) b - hmN P R b k0 = hdH 100000 P.1.2.2 (hmN P R) (dif (dif all s) (2 ^ k0)) k0 by omega]
        exact e2
      by_cases hbc : b = P.1.2.2
      · have hla : lastI P b = -1 := by unfold lastI; rw [if_pos hbc]
        rw [if_pos hla]
        exact go 0 (by unfold hmN; rw [if_pos hbc])
      · have hla : lastI P b = nI b := by unfold lastI; rw [if_neg hbc]
        have hjh : J_harms (lastI P b) (nI k0) T = some (nI (hmN P R b k0), T) := by rw [hla]; exact J_harms_e hr hP hI h10 (by omega) k1
        rw [if_neg (by rw [hla]; exact nI_m1 (by omega))]
        simp only [hjh, bdS]
        exact go _ rfl
theorem J_least (hr : isRw T 0 R) (hP : isTp T P) (h10 : P.1.2.2 ≤ 10) (ha : all < 2 ^ P.1.2.2) (ha2 : all < 1024) (hH : isHt P R all T 0) (I : Int32) : ∀ (c i n v : Nat), v ≤ 99999 → i + c = P.1.2.2 → c < n → J_hold_63 n I (nI all) (nI v) (nI i) T = (if I = -1 then (if nI all = 0 then J_hold_125 (nI 0) T else J_hold_125 (nI (lp (hdS 99999 P.1.2.2 (hmN P R) all P.1.2.2) c i v)) T) else J_hold_139 NN I (nI all) (nI 0) (-1) (nI (lp (hdS 99999 P.1.2.2 (hmN P R) all P.1.2.2) c i v)) (nI 0) T) := by
  intro c
  induction c with
  | zero =>
    intro i n v hv hi hn
    obtain ⟨n, rfl⟩ : ∃ m, n = m + 1 := ⟨n - 1, by omega⟩
    show B_hold_63 (J_hold_63 n) I (nI all) (nI v) (nI i) T = _
    unfold B_hold_63
    rw [hP.2.2.1, if_pos (nI_le (by omega) (by omega))]
    rfl
  | succ c ih =>
    intro i n v hv hi hn
    obtain ⟨n, rfl⟩ : ∃ m, n = m + 1 := ⟨n - 1, by omega⟩
    have hs : J_hold_63 (n + 1) I (nI all) (nI v) (nI i) T = J_hold_63 n I (nI all) (nI (hdS 99999 P.1.2.2 (hmN P R) all P.1.2.2 i v)) (nI (i + 1)) T := by
      show B_hold_63 (J_hold_63 n) I (nI all) (nI v) (nI i) T = _
      unfold B_hold_63 J_hold_104 hdS
      rw [hP.2.2.1, if_neg (nI_ge (show i < P.1.2.2 by omega) (by omega)), bt_tst (show all < 2 ^ 31 by omega) (show i < 31 by omega), nI_add]
      by_cases hb : all.testBit i = true
      · have hp1 : dif (2 ^ i) all = 0 := dif_sub.mpr fun k hk => by
          rw [Nat.testBit_two_pow] at hk
          have e : i = k := by simpa using hk
          rw [← e]; exact hb
        have hle := dif_lt hp1
        have hpos : 0 < 2 ^ i := Nat.two_pow_pos i
        have hv6 := hH (2 ^ i) i hpos hle hp1 (by omega)
        have b1 := hd_b (f := 99999) (cr := P.1.2.2) (hm := hmN P R) hm_99 P.1.2.2 (dif all (2 ^ i)) i (Nat.lt_of_le_of_lt (dif_le all _) ha) (Nat.le_refl _)
        have hm0 : hmN P R P.1.2.2 i = 0 := by unfold hmN; rw [if_pos rfl]
        rw [if_pos hb, if_pos rfl, if_pos hb, hm0, Nat.add_zero, bt_shl (show i < 31 by omega)]
        simp only [pk_mul, nI_add, nI_rd (show 10 * 2 ^ i + i < 10240 by omega) (show 10240 < 2 ^ 31 by omega), hv6, J_lesser_e, mn_nI (show v < 2 ^ 31 by omega) (show hdH 99999 P.1.2.2 (hmN P R) (dif all (2 ^ i)) i < 2 ^ 31 by omega), Nat.add_zero, bdS]
      · rw [if_neg hb, if_neg n01, if_neg hb]
    rw [hs]
    exact ih (i + 1) n _ (Nat.le_trans hdS_le hv) (by omega) (by omega)
theorem o_hold (Q : isQ x0 h0 pa va ca P R lo σ T) (x1 x2 : Int32) : ans va 1200 14000 [(nse, nI 1)] σ T (KX1_hold x0 x1 x2 σ) (J_hold x1 x2 T) := by
  obtain ⟨T0, e0, Q0, hz, f0⟩ := Q.z
  unfold KX1_hold J_hold J_hold_40 J_hold_41
  simp only [e0, bdS, ev_x Q0.1]
  rcases g_town Q0.1 Q0.tp hz x1 with ⟨t, ht, rfl, k1, j1⟩ | ⟨k1, j1⟩
  · have h8 := ev_8 Q0.1
    have h10 := ev_10 Q0.1
    obtain ⟨all, ha2, em⟩ := ly_small (P := P) (R := R) (w := nI t) h10
    have ha : all < 2 ^ P.1.2.2 := by
      obtain ⟨m, h1, h2⟩ := ly_1024 (R := R) (w := nI t) P.1.2.2 0 0 (by omega) (by decide)
      have h3 : lyR P R (nI t) = nI m := h2
      have hm : m < 2 ^ 31 := Nat.lt_of_lt_of_le h1 (Nat.pow_le_pow_right (by omega) (by omega))
      rw [em] at h3
      have h4 := (nI_eq (by omega) hm).mp h3
      rw [h4]
      rw [Nat.zero_add] at h1
      exact h1
    have kl : KX3_lying ca (nI t) σ = some (nI all) := by rw [← em]; exact K_lying Q0.1 Q0.co (nI t)
    have jl : J_lyingIn (nI 0) (nI t) T0 = some (nI all, T0) := by rw [← em]; exact J_lying_e Q0.rw (by omega) Q0.tp h10 (nI_m1 (by omega))
    have kb : KJ14_bitCount (nI all) = some (nI (pcN all)) := by rw [← pc_bc all ha2]; rfl
    have jb : J_bits (nI all) = some (nI (pcN all)) := by rw [bits_all all ha2, pc_bc all ha2]
    have hpc : pcN all ≤ 10 := by
      unfold pcN
      have hb : ∀ b : Bool, b.toNat ≤ 1 := fun b => by cases b <;> decide
      have := hb (all.testBit 0); have := hb (all.testBit 1); have := hb (all.testBit 2); have := hb (all.testBit 3); have := hb (all.testBit 4); have := hb (all.testBit 5); have := hb (all.testBit 6); have := hb (all.testBit 7); have := hb (all.testBit 8); have := hb (all.testBit 9)
      omega
    simp only [k1, j1, xbL, bdS, Q0.gc, co_o Q0.co, kl, kb, jl, jb, if_neg s1_ne]
    have tp := ti_n (n := pcN all) (by omega)
    have t1 := ti_n (n := 1) (by omega)
    have e1 : (nI (pcN all) - nI 1).toInt = (pcN all : Int) - 1 := by rw [ti_sub (by rw [tp, t1]; omega) (by rw [tp, t1]; omega), tp, t1]; rfl
    rw [K_in]
    by_cases hbad : x2 < -1 ∨ nI (pcN all) - nI 1 < x2
    · rw [if_pos hbad]
      simp only [K_found0, xbR, bdS, J_right0 hz s1_ne, if_pos nI_0]
      have hj : (if x2 < -1 then some (nI 0, tw_F T0 0 (nI 1)) else if nI (pcN all) ≤ x2 then some (nI 0, tw_F T0 0 (nI 1)) else (J_right (nI 1) (nI 1) T0).bind fun r1 => if r1.1 = 0 then some (nI 0, r1.2) else (J_laysHold (nI all) r1.2).bind fun r3 => J_hold_63 NN x2 (nI all) (nI 99999) (nI 0) r3) = some (nI 0, tw_F T0 0 (nI 1)) := by
        by_cases h1 : x2 < -1
        · rw [if_pos h1]
        · rw [if_neg h1, if_pos (by have h2 := hbad.resolve_left h1; rw [ti_lt, e1] at h2; rw [ti_le, tp]; omega)]
      rw [hj]
      exact ans.th (List.mem_cons_self ..) F_s (by omega) (by omega) Q0.1.ov (f0.tr jq.t0)
    · have h1 : ¬ x2 < -1 := fun z => hbad (Or.inl z)
      have h2 : ¬ nI (pcN all) ≤ x2 := fun z => hbad (Or.inr (by rw [ti_le, tp] at z; rw [ti_lt, e1]; omega))
      rw [if_neg hbad, if_neg h1, if_neg h2]
      obtain ⟨σ1, X, s1, B1, M1, F1, x1'⟩ := K_harms (all := all) Q0 ha ha2
      obtain ⟨T1, u1, hH, f1⟩ := J_lay_s (R := R) (P := P) Q0.inv h10 ha ha2 all NN T0 (Nat.le_refl _) Q0.rw Q0.tp (fun s' c h1 h2 => by omega) (by unfold NN; omega)
      have u1 : J_laysHold (nI all) T0 = some T1 := u1
      have hr1 := Q0.rw.jq f1.q
      have hP1 := Q0.tp.jq f1.q
      have hz1 : T1.1 0 = 0 := (congrFun f1.1 0).trans hz
      have eL := J_least hr1 hP1 h10 ha ha2 hH x2 P.1.2.2 0 NN 99999 (Nat.le_refl _) (by omega) (by unfold NN; omega)
      have F2 := F1.mo (n' := 1200) (m' := 14000) (fun _ h => h) (by omega) (by omega)
      simp only [K_found1, xbL, ev_x Q0.1, s1, ev_pa B1.1, ev_cr B1.1, J_right1 hz, u1, eL, bdS, if_neg s1_ne]
      have hlm : all ≠ 0 → lp (hdS 99999 P.1.2.2 (hmN P R) all P.1.2.2) P.1.2.2 0 99999 = hdH 100000 P.1.2.2 (hmN P R) all P.1.2.2 := fun h0 => by
        rw [hd_fg (f := 100000) (g := 99999) hm_99 h10 (by omega) (by omega) all P.1.2.2 ha, hd_eq, if_neg h0]
      by_cases hm1 : x2 = -1
      · rw [if_pos hm1, if_pos hm1]
        have r1 := M1.rd h10 (j := all) (b := P.1.2.2) (Nat.le_refl _) (Nat.le_refl _)
        rw [x1' all P.1.2.2 (Nat.le_refl _) (dif_self all) (Nat.le_refl _)] at r1
        simp only [M1.q ha2 (Nat.le_refl all), r1, bdS]
        unfold J_hold_125
        by_cases h0 : all = 0
        · rw [if_pos (by rw [h0]; exact nI_0), h0, hd_eq, if_pos rfl]
          exact ans.ok hz1 F2 B1.1.ov (f0.tr f1.q)
        · rw [if_neg (nI_ne0 (by omega) (by omega)), hlm h0]
          exact ans.ok hz1 F2 B1.1.ov (f0.tr f1.q)
      · rw [if_neg hm1, if_neg hm1]
        have hx0 : ¬ x2 < 0 := fun z => by
          have q1 : ¬ x2.toInt < -1 := fun q => h1 (by rw [ti_lt, ti_m1]; exact q)
          rw [ti_lt, ti_0] at z
          exact hm1 (ti_eq (by rw [ti_m1]; omega))
        obtain ⟨I, hI31, rfl⟩ := nI_of hx0
        have hIp : I < pcN all := by
          by_cases h : I < pcN all
          · exact h
          · exact absurd (nI_le (by omega) hI31) h2
        have h0 : all ≠ 0 := pc_0 all ha2 (by omega)
        obtain ⟨v, q1, q2⟩ := hold_loop (I := I) B1 hr1 hP1 Q0.inv h10 ha ha2 M1 x1' hH (by omega) (I + 1) 0 NN NN 0 P.1.2.2 (dif_sub.mpr fun k hk => by rw [Nat.zero_testBit] at hk; cases hk) (Nat.le_refl _) (fun h => by omega) (by omega) (by
          have e : dif all 0 = all := Nat.eq_of_testBit_eq fun i => by rw [dif_tb, Nat.zero_testBit]; simp
          rw [e]; omega) (by unfold NN; omega) (by unfold NN; omega)
        have e : dif all 0 = all := Nat.eq_of_testBit_eq fun i => by rw [dif_tb, Nat.zero_testBit]; simp
        have hl1 : lastI P P.1.2.2 = -1 := by unfold lastI; rw [if_pos rfl]
        rw [e] at q1 q2
        rw [hl1] at q2
        rw [hlm h0, q1, q2]
        exact ans.ok hz1 F2 B1.1.ov (f0.tr f1.q)
  · simp only [k1, j1, xbR, bdS, if_pos nI_0]
    exact ans.th (List.mem_cons_self ..) F_s (by omega) (by omega) Q0.1.ov (f0.tr jq.t0)
end HO
