/-! the plain law: throws -/
set_option maxRecDepth 100000
def pwI : Nat → Int32
  | 0 => nI 1
  | k + 1 => nI 12 * pwI k
theorem pw_mul : ∀ (c : Nat) (v : Int32), lp (fun _ v => nI 12 * v) c 0 v = pwI c * v := by
  have h : ∀ (c i : Nat) (v : Int32), lp (fun _ v => nI 12 * v) c i v = pwI c * v := by
    intro c
    induction c with
    | zero =>
      intro i v
      show v = nI 1 * v
      rw [show nI 1 = (1 : Int32) from by decide, Int32.one_mul]
    | succ c ih =>
      intro i v
      show lp (fun _ v => nI 12 * v) c (i + 1) (nI 12 * v) = nI 12 * pwI c * v
      rw [ih, ← Int32.mul_assoc, Int32.mul_comm (pwI c) (nI 12)]
  exact fun c v => h c 0 v
theorem K_pow_loop {k : Nat} (hk : k < 100) : ∀ (c i n : Nat) (v : Int32), i + c = k → c < n → KX1_power_4 n (nI k) v (nI i) = some (lp (fun _ v => nI 12 * v) c i v) := by
  intro c
  induction c with
  | zero =>
    intro i n v hi hn
    obtain ⟨n, rfl⟩ : ∃ m, n = m + 1 := ⟨n - 1, by omega⟩
    show BKX1_power_4 (KX1_power_4 n) (nI k) v (nI i) = _
    unfold BKX1_power_4
    rw [if_pos (nI_le (by omega) (by omega))]
    rfl
  | succ c ih =>
    intro i n v hi hn
    obtain ⟨n, rfl⟩ : ∃ m, n = m + 1 := ⟨n - 1, by omega⟩
    show BKX1_power_4 (KX1_power_4 n) (nI k) v (nI i) = some (lp (fun _ v => nI 12 * v) c (i + 1) (nI 12 * v))
    unfold BKX1_power_4
    rw [if_neg (nI_ge (show i < k by omega) (by omega)), nI_add]
    first
      | exact ih (i + 1) n _ (by omega) (by omega)
      | (rw [Int32.mul_comm v (nI 12)]; exact ih (i + 1) n _ (by omega) (by omega))
theorem lp_pw : ∀ (c i : Nat) (v : Int32), lp (fun _ v => nI 12 * v) c i v = lp (fun _ v => nI 12 * v) c 0 v := by
  intro c
  induction c with
  | zero => intro i v; rfl
  | succ c ih => intro i v; exact (ih (i + 1) _).trans (ih 1 _).symm
theorem K_pow {k : Nat} (hk : k < 100) : KX1_power (nI k) = some (pwI k) := by
  have h := K_pow_loop hk k 0 NN (nI 1) (by omega) (by unfold NN; omega)
  rw [pw_mul, show nI 1 = (1 : Int32) from by decide, Int32.mul_one] at h
  exact h
theorem J_pow_loop {k : Nat} (hk : k < 100) : ∀ (c i n : Nat) (v : Int32), i + c = k → c < n → J_power_4 n (nI k) v (nI i) = some (lp (fun _ v => nI 12 * v) c i v) := by
  intro c
  induction c with
  | zero =>
    intro i n v hi hn
    obtain ⟨n, rfl⟩ : ∃ m, n = m + 1 := ⟨n - 1, by omega⟩
    show B_power_4 (J_power_4 n) (nI k) v (nI i) = _
    unfold B_power_4
    rw [if_pos (nI_le (by omega) (by omega))]
    rfl
  | succ c ih =>
    intro i n v hi hn
    obtain ⟨n, rfl⟩ : ∃ m, n = m + 1 := ⟨n - 1, by omega⟩
    show B_power_4 (J_power_4 n) (nI k) v (nI i) = some (lp (fun _ v => nI 12 * v) c (i + 1) (nI 12 * v))
    unfold B_power_4
    rw [if_neg (nI_ge (show i < k by omega) (by omega)), nI_add]
    exact ih (i + 1) n _ (by omega) (by omega)
theorem J_pow {k : Nat} (hk : k < 100) : J_power (nI k) = some (pwI k) := by
  have h := J_pow_loop hk k 0 NN (nI 1) (by omega) (by unfold NN; omega)
  rw [pw_mul, show nI 1 = (1 : Int32) from by decide, Int32.mul_one] at h
  exact h
/-- by how many throws, how many grains -/
def rcF (w : Int32) (goal : Nat) : Nat → Nat → Int32
  | 0, g => if goal ≤ g then pwI 0 else nI 0
  | k + 1, g => if goal ≤ g then pwI (k + 1) else if g = 0 then nI 0 else w * rcF w goal k (g + 1) + (nI 12 - w) * rcF w goal k (g - 1)
theorem nI_1m {a : Nat} : nI (a + 1) - nI 1 = nI a := by rw [pk_sub (by omega), Nat.add_sub_cancel]
theorem K_reach {w : Int32} {goal : Nat} (hg : goal ≤ 20) : ∀ (k N g : Nat), k < 20 → k < N → g ≤ 60 → KX1_reachesN N (nI g) w (nI goal) (nI k) = some (rcF w goal k g) := by
  intro k
  induction k with
  | zero =>
    intro N g hk hN h6
    obtain ⟨N, rfl⟩ : ∃ m, N = m + 1 := ⟨N - 1, by omega⟩
    show KX1_reaches (KX1_reachesN N) (nI g) w (nI goal) (nI 0) = _
    unfold KX1_reaches KX1_reaches_18 rcF
    by_cases h1 : goal ≤ g
    · rw [if_neg (nI_nlt h1 (by omega)), if_pos h1, K_pow (by omega)]
      rfl
    · rw [if_pos (nI_lt (by omega) (by omega)), if_neg h1, if_pos nI_0]
      split <;> rfl
  | succ k ih =>
    intro N g hk hN h6
    obtain ⟨N, rfl⟩ : ∃ m, N = m + 1 := ⟨N - 1, by omega⟩
    show KX1_reaches (KX1_reachesN N) (nI g) w (nI goal) (nI (k + 1)) = _
    unfold KX1_reaches KX1_reaches_18 rcF
    by_cases h1 : goal ≤ g
    · rw [if_neg (nI_nlt h1 (by omega)), if_pos h1, K_pow (by omega)]
      rfl
    · rw [if_pos (nI_lt (by omega) (by omega)), if_neg h1]
      by_cases h2 : g = 0
      · rw [if_pos (by rw [h2]; exact nI_0), if_pos h2]
      · rw [if_neg (nI_ne0 (by omega) (by omega)), if_neg h2, if_neg (nI_ne0 (by omega) (by omega)), nI_add, nI_1m, pk_sub (by omega), ih N (g + 1) (by omega) (by omega) (by omega), ih N (g - 1) (by omega) (by omega) (by omega)]
        rfl
/-- only the row of likelihoods has changed -/
def jL (T T' : tw_T) : Prop := T'.1 = T.1 ∧ ∀ r, r ≠ 27 → T'.2.2 r = T.2.2 r
theorem jL.rf {T : tw_T} : jL T T := ⟨rfl, fun _ _ => rfl⟩
theorem jL.tr {T T1 T2 : tw_T} (h1 : jL T T1) (h2 : jL T1 T2) : jL T T2 := ⟨h2.1.trans h1.1, fun r a => (h2.2 r a).trans (h1.2 r a)⟩
theorem jL.q {T T' : tw_T} (h : jL T T') : jq T T' := ⟨fun k _ => congrFun h.1 k, fun r hr => h.2 r (by omega), fun q _ => by rw [h.2 20 (by omega)]⟩
theorem jL.a {T : tw_T} {f : Nat → Int32} : jL T (tw_A T 27 f) := ⟨rfl, fun _ h => A_n h⟩
theorem J_thr_in {w : Int32} {goal : Nat} (hg1 : 1 ≤ goal) (hg : goal ≤ 20) (x1 x4 : Int32) (k64 : Int32 → Int32 → Int32 → Int32 → Int32 → tw_T → Option (Int32 × tw_T)) {k : Nat} (hk : k ≤ 7) : ∀ (c g n : Nat) (T : tw_T), (∀ q, q < 30 * k + g → T.2.2 27 q = rcF w goal (q / 30) (q % 30)) → g + c = 30 → c < n → ∃ T', J_thrower_74 k64 n x1 w (nI goal) x4 (nI k) (nI g) T = k64 x1 w (nI goal) x4 (nI (k + 1)) T' ∧ (∀ q, q < 30 * (k + 1) → T'.2.2 27 q = rcF w goal (q / 30) (q % 30)) ∧ jL T T' := by
  intro c
  induction c with
  | zero =>
    intro g n T h hi hn
    obtain ⟨n, rfl⟩ : ∃ m, n = m + 1 := ⟨n - 1, by omega⟩
    refine ⟨T, ?_, fun q hq => h q (by omega), jL.rf⟩
    show B_thrower_74 k64 (J_thrower_74 k64 n) x1 w (nI goal) x4 (nI k) (nI g) T = _
    unfold B_thrower_74
    rw [if_pos (nI_le (by omega) (by omega)), nI_add]
  | succ c ih =>
    intro g n T h hi hn
    obtain ⟨n, rfl⟩ : ∃ m, n = m + 1 := ⟨n - 1, by omega⟩
    have e1 : (30 * k + g) / 30 = k := by omega
    have e2 : (30 * k + g) % 30 = g := by omega
    have go : ∀ v, v = rcF w goal k g → ∃ T', J_thrower_161 k64 (J_thrower_74 k64 n) x1 w (nI goal) x4 (nI k) (nI g) (tw_A T 27 (upd (T.2.2 27) (30 * k + g) v)) = k64 x1 w (nI goal) x4 (nI (k + 1)) T' ∧ (∀ q, q < 30 * (k + 1) → T'.2.2 27 q = rcF w goal (q / 30) (q % 30)) ∧ jL T T' := by
      intro v hv
      obtain ⟨T', s1, s2, s3⟩ := ih (g + 1) n (tw_A T 27 (upd (T.2.2 27) (30 * k + g) v)) (fun q hq => by
        rw [A_s]
        by_cases e : q = 30 * k + g
        · subst e; rw [upd_s, e1, e2, hv]
        · rw [upd_n e]; exact h q (by omega)) (by omega) (by omega)
      refine ⟨T', ?_, s2, jL.a.tr s3⟩
      unfold J_thrower_161
      rw [nI_add]
      exact s1
    show ∃ T', B_thrower_74 k64 (J_thrower_74 k64 n) x1 w (nI goal) x4 (nI k) (nI g) T = _ ∧ _
    unfold B_thrower_74 J_thrower_128 J_thrower_160
    simp only [pk_mul, nI_add, J_pow (show k < 100 by omega), nI_st (show 30 * k + g < 240 by omega) (show 240 < 2 ^ 31 by omega), bdS]
    rw [if_neg (nI_ge (show g < 30 by omega) (by omega))]
    by_cases h1 : goal ≤ g
    · rw [if_neg (nI_nlt h1 (by omega))]
      exact go _ (by cases k <;> (unfold rcF; rw [if_pos h1]))
    · rw [if_pos (nI_lt (by omega) (by omega))]
      by_cases h2 : g = 0
      · rw [if_pos (by rw [h2]; exact nI_0)]
        exact go _ (by cases k <;> (unfold rcF; rw [if_neg h1]); rw [if_pos h2])
      · rw [if_neg (nI_ne0 (by omega) (by omega))]
        cases k with
        | zero =>
          rw [if_pos nI_0]
          exact go _ (by unfold rcF; rw [if_neg h1])
        | succ k =>
          rw [if_neg (nI_ne0 (by omega) (by omega)), pk_sub (by omega), pk_sub (by omega), nI_rd (by omega) (by omega), nI_rd (by omega) (by omega), h (30 * (k + 1) + g - 29) (by omega), h (30 * (k + 1) + g - 31) (by omega), show (30 * (k + 1) + g - 29) / 30 = k by omega, show (30 * (k + 1) + g - 29) % 30 = g + 1 by omega, show (30 * (k + 1) + g - 31) / 30 = k by omega, show (30 * (k + 1) + g - 31) % 30 = g - 1 by omega]
          simp only [bdS]
          exact go _ (by rw [show rcF w goal (k + 1) g = (if goal ≤ g then pwI (k + 1) else if g = 0 then nI 0 else w * rcF w goal k (g + 1) + (nI 12 - w) * rcF w goal k (g - 1)) from rfl, if_neg h1, if_neg h2])
theorem J_thr_out {w : Int32} {goal g0 m : Nat} (hg1 : 1 ≤ goal) (hg : goal ≤ 20) (h20 : g0 ≤ 20) (hm : m ≤ 7) : ∀ (c k n : Nat) (T : tw_T), (∀ q, q < 30 * k → T.2.2 27 q = rcF w goal (q / 30) (q % 30)) → k + c = m + 1 → c < n → ∃ T', J_thrower_64 n (nI g0) w (nI goal) (nI m) (nI k) T = some (rcF w goal m g0, T') ∧ jL T T' := by
  intro c
  induction c with
  | zero =>
    intro k n T h hi hn
    obtain ⟨n, rfl⟩ : ∃ m, n = m + 1 := ⟨n - 1, by omega⟩
    refine ⟨T, ?_, jL.rf⟩
    show B_thrower_64 (J_thrower_64 n) (nI g0) w (nI goal) (nI m) (nI k) T = _
    unfold B_thrower_64
    rw [if_pos (nI_lt (by omega) (by omega)), pk_mul, nI_add, nI_rd (by omega) (by omega), h (30 * m + g0) (by omega), show (30 * m + g0) / 30 = m by omega, show (30 * m + g0) % 30 = g0 by omega]
    rfl
  | succ c ih =>
    intro k n T h hi hn
    obtain ⟨n, rfl⟩ : ∃ m, n = m + 1 := ⟨n - 1, by omega⟩
    obtain ⟨T1, s1, s2, s3⟩ := J_thr_in hg1 hg (nI g0) (nI m) (J_thrower_64 n) (k := k) (by omega) 30 0 NN T (fun q hq => h q (by omega)) (by omega) (by unfold NN; omega)
    obtain ⟨T2, u1, u2⟩ := ih (k + 1) n T1 s2 (by omega) (by omega)
    refine ⟨T2, ?_, s3.tr u2⟩
    show B_thrower_64 (J_thrower_64 n) (nI g0) w (nI goal) (nI m) (nI k) T = _
    unfold B_thrower_64
    rw [if_neg (nI_nlt (by omega) (by omega)), s1]
    exact u1
section TH
variable {σ : vv_S} {T : tw_T} {x0 pa va ca a : Nat} {h0 : Nat → Option vv_E} {P : pvT} {R : Nat → Int32} {lo : Int32}
theorem o_thrower (Q : isQ x0 h0 pa va ca P R lo σ T) (x1 x2 x3 x4 : Int32) : ans va 20 200 [(iae, nI 1)] σ T (KX1_thrower x0 x1 x2 x3 x4 σ) (J_thrower x1 x2 x3 x4 T) := by
  obtain ⟨T0, e0, Q0, hz, f0⟩ := Q.z
  unfold KX1_thrower J_thrower KX1_thrower_45 KX1_thrower_46 J_thrower_51 J_thrower_52
  have bad : ans va 20 200 [(iae, nI 1)] σ T (some (.inr ((iae, σ.2.1), tS σ))) (some (nI 0, tw_F T0 0 (nI 1))) := ans.th (List.mem_cons_self ..) F_s (by omega) (by omega) Q0.1.ov (f0.tr jq.t0)
  simp only [e0, bdS, K_right0, xbR, J_right0 hz (c := nI 1) s1_ne, if_pos nI_0, K_right1, xbL, J_right1 hz, if_neg s1_ne]
  rcases g_in hz x1 (a := 0) (b := 20) (by omega) (by omega) (c := nI 1) s1_ne with ⟨g0, -, hg0, rfl, k1, j1⟩ | ⟨k1, j1⟩
  · rcases g_in hz x2 (a := 0) (b := 12) (by omega) (by omega) (c := nI 1) s1_ne with ⟨w, -, hw, rfl, k2, j2⟩ | ⟨k2, j2⟩
    · rcases g_in hz x3 (a := 1) (b := 20) (by omega) (by omega) (c := nI 1) s1_ne with ⟨goal, hgo1, hgo, rfl, k3, j3⟩ | ⟨k3, j3⟩
      · rcases g_in hz x4 (a := 0) (b := 7) (by omega) (by omega) (c := nI 1) s1_ne with ⟨m, -, hm, rfl, k4, j4⟩ | ⟨k4, j4⟩
        · have e1 : KX1_reachesT (nI g0) (nI w) (nI goal) (nI m) = some (rcF (nI w) goal m g0) := K_reach hgo m 20 g0 (by omega) (by omega) (by omega)
          obtain ⟨T1, s1, f1⟩ := J_thr_out (w := nI w) hgo1 hgo hg0 hm (m + 1) 0 NN T0 (fun q hq => by omega) (by omega) (by unfold NN; omega)
          simp only [k1, j1, k2, j2, k3, j3, k4, j4, bdS, if_neg s1_ne, e1, s1]
          exact ans.ok ((congrFun f1.1 0).trans hz) (fa.rf.mo (fun _ h => h) (by omega) (by omega)) Q0.1.ov (f0.tr f1.q)
        · simp only [k1, j1, k2, j2, k3, j3, k4, j4, bdS, if_neg s1_ne, if_pos nI_0]
          exact bad
      · simp only [k1, j1, k2, j2, k3, j3, bdS, if_neg s1_ne, if_pos nI_0]
        exact bad
    · simp only [k1, j1, k2, j2, bdS, if_neg s1_ne, if_pos nI_0]
      exact bad
  · simp only [k1, j1, bdS, if_pos nI_0]
    exact bad
end TH
