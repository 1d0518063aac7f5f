/-! the plain law: what is sent, both -/
set_option maxRecDepth 100000
theorem pcN_10 (m : Nat) : pcN m ≤ 10 := by
  have hb : ∀ b : Bool, b.toNat ≤ 1 := fun b => by cases b <;> decide
  unfold pcN
  have := hb (m.testBit 0); have := hb (m.testBit 1); have := hb (m.testBit 2); have := hb (m.testBit 3); have := hb (m.testBit 4); have := hb (m.testBit 5); have := hb (m.testBit 6); have := hb (m.testBit 7); have := hb (m.testBit 8); have := hb (m.testBit 9)
  omega
section HV
variable {σ : vv_S} {T : tw_T} {x0 pa va ca r r' : Nat} {h0 : Nat → Option vv_E} {P : pvT} {R : Nat → Int32} {lo : Int32} {x : Nat}
theorem J_s165 (hr : isRw T 0 R) (hP : isTp T P) (hI : invR P R) (hQ : invP P) (hW : wyP P) (h8 : P.1.1 ≤ 8) (h12 : P.1.2.1 ≤ 12) (h10 : P.1.2.2 ≤ 10) {D : Nat → Nat → Nat} (dD : isD T D (fwx (wyE P true 99) P.1.1)) (hx : x < P.1.1) {G s : Nat} (hG : G ≤ 999) (hs : s < 1024) (hm : ∀ k, k < P.1.2.2 → s.testBit k = true → mS P R x k = true) (x3 x4 : Int32) (k122 : Int32 → Int32 → Int32 → Int32 → Int32 → tw_T → Option (Int32 × tw_T)) : ∀ (d i n v : Nat), v ≤ 99 * i → lp (smF (cS P R x) s) d i v = smN (cS P R x) P.1.2.2 s → i + d = P.1.2.2 → d < n → J_sending_165 k122 n (nI x) (nI G) x3 x4 (nI s) (nI v) (nI i) T = k122 (nI x) (nI G) x3 (if G ≤ smN (cS P R x) P.1.2.2 s then nI s else x4) (nI (s + 1)) T := by
  intro d
  induction d with
  | zero =>
    intro i n v hv e1 hi hn
    obtain ⟨n, rfl⟩ : ∃ m, n = m + 1 := ⟨n - 1, by omega⟩
    have e1 : v = smN (cS P R x) P.1.2.2 s := e1
    rw [← e1]
    show B_sending_165 k122 (J_sending_165 k122 n) (nI x) (nI G) x3 x4 (nI s) (nI v) (nI i) T = _
    unfold B_sending_165 J_sending_220 J_sending_222
    rw [hP.2.2.1, if_pos (nI_le (by omega) (by omega)), nI_add]
    by_cases h : G ≤ v
    · rw [if_neg (nI_nlt h (by omega)), if_pos h]
    · rw [if_pos (nI_lt (by omega) (by omega)), if_neg h]
  | succ d ih =>
    intro i n v hv e1 hi hn
    obtain ⟨n, rfl⟩ : ∃ m, n = m + 1 := ⟨n - 1, by omega⟩
    have hci := cS_99 (x := x) hI h10 i
    have e3 := ih (i + 1) n (smF (cS P R x) s i v) (by unfold smF; split <;> omega) e1 (by omega) (by omega)
    rw [← e3]
    show B_sending_165 k122 (J_sending_165 k122 n) (nI x) (nI G) x3 x4 (nI s) (nI v) (nI i) T = _
    unfold B_sending_165 J_sending_198 smF
    rw [hP.2.2.1, if_neg (nI_ge (show i < P.1.2.2 by omega) (by omega)), bt_tst (show s < 2 ^ 31 by omega) (show i < 31 by omega)]
    by_cases h1 : s.testBit i = true
    · have hm1 := of_decide_eq_true (hm i (by omega) h1)
      have e4 := J_comes_e hr hP hI hQ hW h8 h12 h10 dD hx (k := i) (by omega) hm1.1 (fun z => s1_ne (z.symm.trans hm1.2.1))
      rw [if_pos h1, if_pos rfl, if_pos h1, e4]
      simp only [nI_add, bdS]
    · rw [if_neg h1, if_neg n01, if_neg h1, nI_add, nI_add, Nat.add_zero]
theorem J_s122 (hr : isRw T 0 R) (hP : isTp T P) (hI : invR P R) (hQ : invP P) (hW : wyP P) (h8 : P.1.1 ≤ 8) (h12 : P.1.2.1 ≤ 12) (h10 : P.1.2.2 ≤ 10) {D : Nat → Nat → Nat} (dD : isD T D (fwx (wyE P true 99) P.1.1)) (hx : x < P.1.1) {G all : Nat} (hG : G ≤ 999) (ha : all < 1024) (hm : ∀ k, all.testBit k = true → mS P R x k = true) : ∀ (d s n : Nat) (o : Option Nat), (∀ m, o = some m → m < 1024) → s + d = all + 1 → d < n → J_sending_122 n (nI x) (nI G) (nI all) (oI o) (nI s) T = some (oI (lp (stp fun s => decide (dif s all = 0) && decide (G ≤ smN (cS P R x) P.1.2.2 s)) d s o), T) := by
  intro d
  induction d with
  | zero =>
    intro s n o ho hi hn
    obtain ⟨n, rfl⟩ : ∃ m, n = m + 1 := ⟨n - 1, by omega⟩
    show B_sending_122 (J_sending_122 n) (nI x) (nI G) (nI all) (oI o) (nI s) T = _
    unfold B_sending_122
    rw [if_pos (nI_lt (by omega) (by omega))]
    rfl
  | succ d ih =>
    intro s n o ho hi hn
    obtain ⟨n, rfl⟩ : ∃ m, n = m + 1 := ⟨n - 1, by omega⟩
    have e := ih (s + 1) n (stp (fun s => decide (dif s all = 0) && decide (G ≤ smN (cS P R x) P.1.2.2 s)) s o) (stp_lt (by omega) ho) (by omega) (by omega)
    show B_sending_122 (J_sending_122 n) (nI x) (nI G) (nI all) (oI o) (nI s) T = some (oI (lp (stp fun s => decide (dif s all = 0) && decide (G ≤ smN (cS P R x) P.1.2.2 s)) d (s + 1) (stp (fun s => decide (dif s all = 0) && decide (G ≤ smN (cS P R x) P.1.2.2 s)) s o)), T)
    rw [← e]
    unfold B_sending_122 J_sending_159 J_sending_222
    have jb : ∀ m, m < 1024 → J_bits (nI m) = some (nI (pcN m)) := fun m hm => by rw [bits_all m hm, pc_bc m hm]
    rw [if_neg (nI_nlt (show s ≤ all by omega) (by omega)), nI_add]
    have no : ∀ b : Bool, decide (dif s all = 0) = false ∨ lessB s o = false → (stp (fun s => decide (dif s all = 0) && decide (G ≤ smN (cS P R x) P.1.2.2 s)) s o) = o := by
      intro _ h
      unfold stp
      rw [if_neg]
      intro z
      dsimp only at z
      rw [Bool.and_eq_true, Bool.and_eq_true] at z
      rcases h with h | h
      · rw [h] at z; exact absurd z.1.1 (by decide)
      · rw [h] at z; exact absurd z.2 (by decide)
    by_cases h1 : dif s all = 0
    · rw [if_pos ((dif_0 (by omega)).mpr h1)]
      have yes : lessB s o = true → J_sending_165 (J_sending_122 n) NN (nI x) (nI G) (nI all) (oI o) (nI s) (nI 0) (nI 0) T = J_sending_122 n (nI x) (nI G) (nI all) (oI (stp (fun s => decide (dif s all = 0) && decide (G ≤ smN (cS P R x) P.1.2.2 s)) s o)) (nI (s + 1)) T := by
        intro hl
        rw [J_s165 hr hP hI hQ hW h8 h12 h10 dD hx hG (show s < 1024 by omega) (fun k _ hk => hm k (dif_sub.mp h1 k hk)) (nI all) (oI o) (J_sending_122 n) P.1.2.2 0 NN 0 (by omega) rfl (by omega) (by unfold NN; omega)]
        congr 1
        unfold stp
        by_cases h2 : G ≤ smN (cS P R x) P.1.2.2 s
        · rw [if_pos h2, if_pos (show ((decide (dif s all = 0) && decide (G ≤ smN (cS P R x) P.1.2.2 s)) && lessB s o) = true by rw [decide_eq_true h1, decide_eq_true h2, hl]; rfl)]; rfl
        · rw [if_neg h2, if_neg (show ¬ ((decide (dif s all = 0) && decide (G ≤ smN (cS P R x) P.1.2.2 s)) && lessB s o) = true by rw [decide_eq_false h2]; simp)]
      cases o with
      | none => rw [if_pos (show oI none = -1 from rfl)]; exact yes rfl
      | some m =>
        have hm2 := ho m rfl
        have := pcN_10 s
        have := pcN_10 m
        rw [if_neg (show ¬ oI (some m) = -1 from nI_m1 (by omega))]
        have jm : J_bits (oI (some m)) = some (nI (pcN m)) := jb m hm2
        simp only [jb s (by omega), jm, bdS]
        by_cases h2 : pcN s < pcN m
        · rw [if_pos (nI_lt h2 (by omega))]
          exact yes (decide_eq_true h2)
        · rw [if_neg (nI_nlt (by omega) (by omega)), no true (Or.inr (decide_eq_false h2))]
    · rw [if_neg (fun z => h1 ((dif_0 (by omega)).mp z)), no true (Or.inl (decide_eq_false h1))]
theorem K_least3 (Q : isQ x0 h0 pa va ca P R lo σ T) (lk : Bool) {f : Nat} (hf : f < P.1.1) : ∃ σ', KX2_least pa (nI f) (if lk = true then nI 1 else nI 0) σ = some (σ.2.1, σ') ∧ isX σ' σ.2.1 (bfx (wyE P lk 99) P.1.1 f) ∧ isEnv σ' x0 h0 pa va P ∧ σ'.2 = (σ.2.1 + 1, σ.2.2 + 8) ∧ ∀ q, q ≠ σ.2.1 → σ'.1 q = σ.1 q := by
  have h8 := ev_8 Q.1
  obtain ⟨σ1, s1, z1, n1, k1⟩ := nw8 (σ := σ) (k := 8) (by omega)
  have H1 := Q.1.up Q.dm Q.lt.1 Q.lt.2.1 (fun q hq => k1 q (by omega))
  have hr : h0 σ.2.1 = none := Q.dm _ (Nat.le_refl _)
  have y1 : isX σ1 σ.2.1 (fun _ => 0) := ⟨_, n1, fun _ _ => rfl⟩
  obtain ⟨σ2, s2, y2, f2⟩ := K_begin (pa := pa) (if lk = true then nI 1 else nI 0) (-1) (f := f) (by omega) 8 0 NN σ1 _ y1 (fun t ht => by omega) (by omega) (by unfold NN; omega)
  have H2 := y1.ev H1 hr f2
  obtain ⟨σ3, s3, y3, H3, f3⟩ := K_rounds (lk := lk) Q.cx.2 hr (m1_99 Q.1) P.1.1 0 NN σ2 _ H2 y2 (fun t => by unfold bf0; split <;> omega) (by omega) (by unfold NN; omega)
  refine ⟨σ3, ?_, y3, H3, ?_, fun q hq => ?_⟩
  · unfold KX2_least KX2_least_2
    simp only [ev_o Q.1, s1, bdS, s2, s3]
  · rw [f3.1, f2.1, z1]
  · rw [f3.n1 hq, f2.n1 hq, k1 q hq]
theorem o_sending (Q : isQ x0 h0 pa va ca P R lo σ T) (hW : wyP P) (x1 x2 : Int32) : ans va 20 200 [(nse, nI 1), (iae, nI 2)] σ T (KX1_sending x0 x1 x2 σ) (J_sending x1 x2 T) := by
  obtain ⟨T0, e0, Q0, hz, f0⟩ := Q.z
  unfold KX1_sending J_sending J_sending_29
  simp only [e0, bdS, ev_x Q0.1]
  rcases g_town Q0.1 Q0.tp hz x1 with ⟨x, hx, rfl, k1, j1⟩ | ⟨k1, j1⟩
  · rcases g_in (T := T0) hz x2 (a := 1) (b := 999) (by omega) (by omega) (c := nI 2) (by decide) with ⟨G, hG1, hG, rfl, k2, j2⟩ | ⟨k2, j2⟩
    · have h8 := ev_8 Q0.1
      have h10 := ev_10 Q0.1
      have h12 := ev_12 Q0.1
      have hl := Q0.lt
      have hI := Q0.inv
      have h1024 : (2 : Nat) ^ P.1.2.2 ≤ 1024 := by
        rw [show (1024 : Nat) = 2 ^ 10 from rfl]
        exact Nat.pow_le_pow_right (by omega) h10
      obtain ⟨σ1, s1, X1, H1, z1, u1'⟩ := K_least3 Q0 true hx
      have s1 : KX2_least pa (nI x) (nI 1) σ = some (σ.2.1, σ1) := s1
      obtain ⟨σ2, s2, z2, n2, u2⟩ := nw8 (σ := σ1) (k := 10) (by omega)
      have z1a : σ1.2.1 = σ.2.1 + 1 := by rw [z1]
      have u3 : ∀ q, q < σ.2.1 → σ2.1 q = σ.1 q := fun q hq => (u2 q (by omega)).trans (u1' q (by omega))
      have B2 : hB x0 h0 pa va ca P R lo σ2 := ⟨Q0.1.up Q0.dm hl.1 hl.2.1 u3, Q0.co.ke fun q h1 h2 => u3 q (by omega), (gR_eq (u3 x0 hl.2.1)).trans Q0.gc⟩
      have X2 : isX σ2 σ.2.1 (lkN P x) := by
        obtain ⟨f, q1, q2⟩ := X1
        exact ⟨f, (u2 _ (by omega)).trans q1, q2⟩
      have Y2 : isY σ2 σ1.2.1 (fun _ => 0) := ⟨_, n2, fun _ _ => rfl⟩
      obtain ⟨σ3, g, s3, B3, Y3, hg, f3⟩ := K_s35 (r := σ.2.1) (x := x) Q0.dm hl (by omega) hI h10 h8 (fun t => (bf_is (wy_ok (lk := true) (bt := 99) Q0.cx.2 h8 hW) h12 h8 hx t).1.elim (fun h => Nat.le_of_eq h) (fun h => by have := h.1; show bfx (wyE P true 99) P.1.1 x t ≤ 100000; omega)) (nI G) P.1.2.2 0 NN σ2 _ B2 X2 Y2 (fun k hk => by omega) (fun _ _ => rfl) (by omega) (by unfold NN; omega)
      have e5 := K_s155 B3.1 h10 Y3 hg (cS_99 (x := x) hI h10) (G := G) hG (2 ^ P.1.2.2) 0 NN none (fun m h => by cases h) (by omega) (by unfold NN; omega)
      obtain ⟨T1, u1, d1, g1⟩ := J_measures_e Q0.tp Q0.cx.2 hW h8 h12 (m1_99n h12)
      have hr1 := Q0.rw.jq g1.jq
      have hP1 := Q0.tp.jq g1.jq
      obtain ⟨all, a1, a2, a3⟩ := lpB (e := mS P R x) P.1.2.2 0 0 (by omega) (by decide)
      rw [Nat.zero_add] at a1
      have hall : ∀ k, all.testBit k = true → k < P.1.2.2 ∧ mS P R x k = true := by
        intro k hk
        rw [a3, Nat.zero_testBit] at hk
        simp at hk
        exact hk
      have e6 := J_s41 hr1 hP1 hI Q0.cx.2 hW h8 h12 h10 d1 hx (nI G) P.1.2.2 0 NN (nI 0) (by omega) (by unfold NN; omega)
      have e7 := J_s122 hr1 hP1 hI Q0.cx.2 hW h8 h12 h10 d1 hx (G := G) hG (show all < 1024 by omega) (fun k hk => (hall k hk).2) (all + 1) 0 NN none (fun m h => by cases h) (by omega) (by unfold NN; omega)
      have e8 := send_eq (c := cS P R x) (G := G) h10 hG1 a1 (fun k hk hc => by
        rw [a3, Nat.zero_testBit]
        have h9 : mS P R x k = true := by
          by_cases h9 : k < P.1.2.2 ∧ liesR R k ∧ R (35 + k) ≠ nI 1 ∧ lkN P x (tN R k) < 100000
          · refine decide_eq_true ⟨h9.2.1, ?_, h9.2.2.2⟩
            obtain ⟨b1, b2⟩ := wN_e (m := 1) (hI.2 k (by omega)).2.1
            rw [b2] at h9 ⊢
            by_cases e : (R (35 + k)).toInt.toNat = 0
            · rw [e]; rfl
            · exact absurd (by rw [show (R (35 + k)).toInt.toNat = 1 by omega]) h9.2.2.1
          · unfold cS at hc
            rw [if_neg h9] at hc
            omega
        rw [h9]
        simp [hk])
      have ek : KX1_sending_155 NN x0 (nI G) σ1.2.1 (-1) (nI 0) σ3 = some (.inl (oI (lp (stp fun s => alB (cS P R x) P.1.2.2 s && decide (G ≤ smN (cS P R x) P.1.2.2 s)) (2 ^ P.1.2.2) 0 none), σ3)) := e5
      have ej : J_sending_122 NN (nI x) (nI G) (nI all) (-1) (nI 0) T1 = some (oI (lp (stp fun s => decide (dif s all = 0) && decide (G ≤ smN (cS P R x) P.1.2.2 s)) (all + 1) 0 none), T1) := e7
      rw [a2, ej] at e6
      rw [ek, e8] at s3
      simp only [k1, j1, xbL, bdS, if_neg s1_ne, k2, j2, K_right1, J_right1 hz, ev_x Q0.1, ev_pa Q0.1, ev_o Q0.1, s1, s2, s3, u1, e6]
      have F2 : fa (fun q => q = va) 20 200 σ σ3 := ⟨by rw [f3.1, z2, z1]; dsimp only; omega, fun q hq _ => (f3.n1 (by omega)).trans (u3 q hq)⟩
      exact ans.ok (g1.z.trans hz) F2 B3.1.ov (f0.tr g1.jq)
    · simp only [k1, j1, xbL, xbR, bdS, if_neg s1_ne, k2, j2, K_right0, J_right0 hz (show nI 2 ≠ 0 by decide), if_pos nI_0]
      exact ans.th (List.mem_cons_of_mem _ (List.mem_cons_self ..)) F_s (by omega) (by omega) Q0.1.ov (f0.tr jq.t0)
  · simp only [k1, j1, xbR, bdS, if_pos nI_0]
    exact ans.th (List.mem_cons_self ..) F_s (by omega) (by omega) Q0.1.ov (f0.tr jq.t0)
end HV
