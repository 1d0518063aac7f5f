/-! the plain law: forms, chains, their signs -/
set_option maxRecDepth 100000
/-- six values say all -/
def sx (ev : (Nat → Int32) → Int32) : Prop := ∀ u u' : Nat → Int32, (∀ k, k < 6 → u k = u' k) → ev u = ev u'
/-- a form at f, all of it between s and e -/
def isFr (h : Nat → Option vv_E) (s e f dp : Nat) (ev : (Nat → Int32) → Int32) : Prop := (s ≤ f ∧ f < e) ∧ (∃ (b : Bool) (ci : Nat) (fs : List Value), h f = some (b, .inr (ci, fs)) ∧ (ci = 7 ∨ ci = 8 ∨ ci = 9 ∨ ci = 10)) ∧ ∀ σ : vv_S, (∀ q, s ≤ q → q < e → σ.1 q = h q) → ∀ (m vs : Nat) (b : Bool) (u : Nat → Int32), dp ≤ m → σ.1 vs = some (b, .inl (.int, 6, .inl u)) → KX_fo m f vs σ = some (ev u)
/-- what a sign does -/
def byV (s : Nat) (a b : Int32) : Int32 := if s = 38 then (if a = 0 then nI 0 else if b = 0 then nI 0 else nI 1) else if s = 42 then a * b else if s = 43 then a + b else if s = 45 then a - b else if s = 47 then (if b = 0 then nI 0 else a / b) else if s = 60 then (if b ≤ a then nI 0 else nI 1) else if s = 61 then (if a = b then nI 1 else nI 0) else (if a = 0 then (if b = 0 then nI 0 else nI 1) else nI 1)
def sgn (s : Nat) : Prop := s = 38 ∨ s = 42 ∨ s = 43 ∨ s = 45 ∨ s = 47 ∨ s = 60 ∨ s = 61 ∨ s = 124
def foV (evs : Nat → (Nat → Int32) → Int32) (sg : Nat → Nat) (u : Nat → Int32) : Nat → Int32
  | 0 => evs 0 u
  | k + 1 => byV (sg k) (foV evs sg u k) (evs (k + 1) u)
section FO
variable {σ : vv_S} {h h' : Nat → Option vv_E} {ad : Nat → Nat} {s e f dp : Nat} {ev : (Nat → Int32) → Int32}
theorem isFr.mo {s' e' dp' : Nat} (H : isFr h s e f dp ev) (hs : s' ≤ s) (he : e ≤ e') (hk : ∀ q, s ≤ q → q < e → h' q = h q) (hd : dp ≤ dp') : isFr h' s' e' f dp' ev := by
  obtain ⟨⟨h1, h2⟩, ⟨b, ci, fs, h3, h4⟩, h5⟩ := H
  exact ⟨⟨by omega, by omega⟩, ⟨b, ci, fs, (hk f h1 h2).trans h3, h4⟩, fun σ hq m vs b u hm hv => h5 σ (fun q q1 q2 => (hq q (by omega) (by omega)).trans (hk q q1 q2)) m vs b u (by omega) hv⟩
theorem isFr.isf (H : isFr h s e f dp ev) (hk : σ.1 f = h f) : isF σ f = some () := by
  obtain ⟨-, ⟨b, ci, fs, h3, h4⟩, -⟩ := H
  unfold isF
  rw [hk, h3]
  exact if_pos h4
theorem isFr.any (H : isFr h s e f dp ev) (hk : σ.1 f = h f) : anyK σ "java/lang/Object" f = true := by
  obtain ⟨-, ⟨b, ci, fs, h3, h4⟩, -⟩ := H
  unfold anyK
  rw [hk, h3]
  show ((decide ("java/lang/Object" = "java/lang/Object") && decide (ci < 15)) || (decide ("java/lang/Object" = "java/lang/String") && decide (ci = 14))) = true
  have : ci < 15 := by omega
  simp [this]
theorem fr_8 {v : Int32} (h1 : h f = some (true, .inr (8, [.int v]))) (h2 : s ≤ f ∧ f < e) : isFr h s e f 1 (fun _ => v) := by
  refine ⟨h2, ⟨true, 8, _, h1, by omega⟩, fun σ hq m vs b u hm hv => ?_⟩
  obtain ⟨m, rfl⟩ : ∃ z, m = z + 1 := ⟨m - 1, by omega⟩
  have e1 := (hq f h2.1 h2.2).trans h1
  show (match σ.1 f with
    | some (_, .inr (7, _)) => KX8_of (KX_fo m) f vs σ
    | some (_, .inr (8, _)) => KX9_of f vs σ
    | some (_, .inr (9, _)) => KX10_of f vs σ
    | some (_, .inr (10, _)) => KX11_of (KX_fo m) f vs σ
    | _ => none) = _
  rw [e1]
  show KX9_of f vs σ = _
  unfold KX9_of gI gV
  rw [e1]
  rfl
theorem fr_9 {k : Nat} (hk : k < 6) (h1 : h f = some (true, .inr (9, [.int (nI k)]))) (h2 : s ≤ f ∧ f < e) : isFr h s e f 1 (fun u => u k) := by
  refine ⟨h2, ⟨true, 9, _, h1, by omega⟩, fun σ hq m vs b u hm hv => ?_⟩
  obtain ⟨m, rfl⟩ : ∃ z, m = z + 1 := ⟨m - 1, by omega⟩
  have e1 := (hq f h2.1 h2.2).trans h1
  show (match σ.1 f with
    | some (_, .inr (7, _)) => KX8_of (KX_fo m) f vs σ
    | some (_, .inr (8, _)) => KX9_of f vs σ
    | some (_, .inr (9, _)) => KX10_of f vs σ
    | some (_, .inr (10, _)) => KX11_of (KX_fo m) f vs σ
    | _ => none) = _
  rw [e1]
  show KX10_of f vs σ = _
  have g0 : gI σ f 9 0 = some (nI k) := by unfold gI gV; rw [e1]; rfl
  unfold KX10_of
  simp only [g0, aI_at hv hk (show 6 < 2 ^ 31 by omega), bdS]
theorem fr_10 {f0 : Nat} (H : isFr h s e f0 dp ev) (h1 : h f = some (true, .inr (10, [.ref f0]))) (h2 : s ≤ f ∧ f < e) : isFr h s e f (dp + 1) (fun u => if ev u = 0 then nI 1 else nI 0) := by
  refine ⟨h2, ⟨true, 10, _, h1, by omega⟩, fun σ hq m vs b u hm hv => ?_⟩
  obtain ⟨m, rfl⟩ : ∃ z, m = z + 1 := ⟨m - 1, by omega⟩
  have e1 := (hq f h2.1 h2.2).trans h1
  show (match σ.1 f with
    | some (_, .inr (7, _)) => KX8_of (KX_fo m) f vs σ
    | some (_, .inr (8, _)) => KX9_of f vs σ
    | some (_, .inr (9, _)) => KX10_of f vs σ
    | some (_, .inr (10, _)) => KX11_of (KX_fo m) f vs σ
    | _ => none) = _
  rw [e1]
  show KX11_of (KX_fo m) f vs σ = _
  have g0 : gR σ f 10 0 = some f0 := by unfold gR gV; rw [e1]; rfl
  unfold KX11_of KX11_of_18
  simp only [g0, H.2.2 σ hq m vs b u (by omega) hv, bdS]
  split <;> rfl
theorem by_e {s : Nat} (hs : sgn s) (a b : Int32) : KX8_by (nI s) a b = some (byV s a b) := by
  rcases hs with rfl | rfl | rfl | rfl | rfl | rfl | rfl | rfl
  · show _ = some (if a = 0 then nI 0 else if b = 0 then nI 0 else nI 1)
    unfold KX8_by KX8_by_170 KX8_by_171
    rw [if_pos rfl]
    split
    · rfl
    · split <;> rfl
  · unfold KX8_by
    repeat rw [if_neg (by decide)]
    rw [if_pos rfl]
    rfl
  · unfold KX8_by
    repeat rw [if_neg (by decide)]
    rw [if_pos rfl]
    rfl
  · unfold KX8_by
    repeat rw [if_neg (by decide)]
    rw [if_pos rfl]
    rfl
  · show _ = some (if b = 0 then nI 0 else a / b)
    unfold KX8_by KX8_by_135
    repeat rw [if_neg (by decide)]
    rw [if_pos rfl]
    by_cases h : b = 0
    · rw [if_pos h, if_pos h]
    · rw [if_neg h, if_neg h]
      unfold dvI
      rw [if_neg h]
      rfl
  · show _ = some (if b ≤ a then nI 0 else nI 1)
    unfold KX8_by KX8_by_146
    repeat rw [if_neg (by decide)]
    rw [if_pos rfl]
    split <;> rfl
  · show _ = some (if a = b then nI 1 else nI 0)
    unfold KX8_by KX8_by_157
    repeat rw [if_neg (by decide)]
    rw [if_pos rfl]
    split <;> rfl
  · show _ = some (if a = 0 then (if b = 0 then nI 0 else nI 1) else nI 1)
    unfold KX8_by
    repeat rw [if_neg (by decide)]
    unfold KX8_by_172 KX8_by_180 KX8_by_185
    split
    · split <;> rfl
    · rfl
/-! signs behind one another -/
/-- a builder at sb: n signs in its array at v, that has room for cap -/
def isSb (h : Nat → Option vv_E) (sb v cap n : Nat) (sg : Nat → Nat) : Prop := ∃ (i2 : Int32) (g : Nat → Int32), h sb = some (true, .inr (13, [.ref v, .int (nI 0), .int i2, .int (nI n)])) ∧ h v = some (true, .inl (.byte, cap, .inl g)) ∧ n ≤ cap ∧ cap < 10000 ∧ ∀ i, i < n → g i = nI (sg i) ∧ sg i < 128
theorem K_sbi {sb : Nat} {sg : Nat → Nat} (h1 : σ.1 sb = some (true, .inr (13, [.null, .int 0, .int 0, .int 0]))) (hlt : sb < σ.2.1) : ∃ σ', KJ19_init sb σ = some σ' ∧ isSb σ'.1 sb σ.2.1 16 0 sg ∧ σ'.2 = (σ.2.1 + 1, σ.2.2 + 16) ∧ ∀ q, q < σ.2.1 → q ≠ sb → σ'.1 q = σ.1 q := by
  have q1 : nwA σ .byte (nI 16) = some (vv_up σ.1 σ.2.1 (true, .inl (.byte, 16, .inl (fun _ => 0))), σ.2.1 + 1, σ.2.2 + 16) := by
    unfold nwA
    rw [if_neg (by decide), nI_clamp (by omega)]
  have q2 : pF (vv_up σ.1 σ.2.1 (true, .inl (.byte, 16, .inl (fun _ => 0))), σ.2.1 + 1, σ.2.2 + 16) sb 13 0 (.ref σ.2.1) = some (vv_up (vv_up σ.1 σ.2.1 (true, .inl (.byte, 16, .inl (fun _ => 0)))) sb (true, .inr (13, [.ref σ.2.1, .int 0, .int 0, .int 0])), σ.2.1 + 1, σ.2.2 + 16) := by
    unfold pF
    dsimp only
    rw [up_n (by omega), h1]
    rfl
  have q3 : pF (vv_up (vv_up σ.1 σ.2.1 (true, .inl (.byte, 16, .inl (fun _ => 0)))) sb (true, .inr (13, [.ref σ.2.1, .int 0, .int 0, .int 0])), σ.2.1 + 1, σ.2.2 + 16) sb 13 1 (.int (nI 0)) = some (vv_up (vv_up (vv_up σ.1 σ.2.1 (true, .inl (.byte, 16, .inl (fun _ => 0)))) sb (true, .inr (13, [.ref σ.2.1, .int 0, .int 0, .int 0]))) sb (true, .inr (13, [.ref σ.2.1, .int (nI 0), .int 0, .int 0])), σ.2.1 + 1, σ.2.2 + 16) := by
    unfold pF
    dsimp only
    rw [up_s]
    rfl
  refine ⟨(vv_up (vv_up (vv_up σ.1 σ.2.1 (true, .inl (.byte, 16, .inl (fun _ => 0)))) sb (true, .inr (13, [.ref σ.2.1, .int 0, .int 0, .int 0]))) sb (true, .inr (13, [.ref σ.2.1, .int (nI 0), .int 0, .int 0])), σ.2.1 + 1, σ.2.2 + 16), ?_, ⟨0, fun _ => 0, ?_, ?_, Nat.zero_le _, by omega, fun i hi => by omega⟩, rfl, fun q h2 h3 => ?_⟩
  · unfold KJ19_init KJ18_init
    rw [if_neg s1_ne]
    simp only [q1, q2, q3, bdS]
  · show (vv_up _ sb _) sb = _
    rw [up_s, nI_0]
  · show (vv_up _ sb _) σ.2.1 = _
    rw [up_n (by omega), up_n (by omega), up_s]
  · show (vv_up _ sb _) q = _
    rw [up_n h3, up_n h3, up_n (by omega)]
theorem isSb.up {h h' : Nat → Option vv_E} {sb v cap n : Nat} {sg : Nat → Nat} (H : isSb h sb v cap n sg) (h1 : h' sb = h sb) (h2 : h' v = h v) : isSb h' sb v cap n sg := by
  obtain ⟨i2, g, k1, k2, k3⟩ := H
  exact ⟨i2, g, h1.trans k1, h2.trans k2, k3⟩
theorem bu_o {sb v cap n : Nat} {sg : Nat → Nat} (H : isSb σ.1 sb v cap n sg) : isO σ sb 13 = some () := by
  obtain ⟨i2, g, k1, -⟩ := H
  unfold isO; rw [k1]; rfl
theorem shr0 {n : Nat} (hn : n < 2 ^ 31) : nI n >>> (nI 0 &&& 31) = nI n := by
  have h0 : (nI 0 &&& 31) = 0 := by decide
  rw [h0]
  exact (pk_shrN (n := n) hn 0 0 (by decide)).trans (by rw [Nat.pow_zero, Nat.div_one])
theorem shl0 {n : Nat} (hn : n < 2 ^ 31) : nI n <<< (nI 0 &&& 31) = nI n := by
  have h0 : (nI 0 &&& 31) = 0 := by decide
  rw [h0]
  exact (pk_shlN (n := n) 0 0 (by decide) (by omega)).trans (by rw [Nat.pow_zero, Nat.mul_one])
theorem bu_at {sb v cap n : Nat} {sg : Nat → Nat} (H : isSb σ.1 sb v cap n sg) {i : Nat} (hi : i < n) : KJ19_charAt sb (nI i) σ = some (nI (sg i)) := by
  have o1 := bu_o H
  obtain ⟨i2, g, k1, k2, k3, k4, k5⟩ := H
  obtain ⟨e1, e2⟩ := k5 i hi
  have g1 : gI σ sb 13 1 = some (nI 0) := by unfold gI gV; rw [k1]; rfl
  have g0 : gR σ sb 13 0 = some v := by unfold gR gV; rw [k1]; rfl
  have g3 : gI σ sb 13 3 = some (nI n) := by unfold gI gV; rw [k1]; rfl
  have al : aLn σ v = some (nI cap) := by unfold aLn; rw [k2]
  have a1 : aI σ .byte v (nI i) = some (nI (sg i)) := by rw [aB_at k2 (by omega) (by omega), e1]
  have hc := s_cr (sg i) (by omega)
  unfold KJ19_charAt KJ18_charAt KJ8_checkIndex KJ11_checkIndex
  simp only [o1, g1, g0, g3, al, shr0 (show cap < 2 ^ 31 by omega), mn_nI (show n < 2 ^ 31 by omega) (show cap < 2 ^ 31 by omega), Nat.min_eq_left k3, if_neg (nI_pos (show i < 2 ^ 31 by omega)), if_pos (nI_lt hi (show n < 2 ^ 31 by omega)), if_pos nI_0, a1, hc.1, hc.2, bdS]
theorem fit_b : ∀ cc, cc < 128 → fits .byte (.int (nI cc)) = true ∧ vp_nar .byte (Int32.toInt8 (nI cc)).toInt32 = nI cc := by decide +kernel
/-- the array behind a sign more -/
def bcN (cap n : Nat) : Nat := if n < cap then cap else 2 * cap + 2
theorem K_sba {sb v cap n cc : Nat} {sg : Nat → Nat} (H : isSb σ.1 sb v cap n sg) (hlt : sb < σ.2.1 ∧ v < σ.2.1) (hcap : 16 ≤ cap ∧ cap ≤ 2000) (hc : cc < 128) : ∃ σ' v' r, KJ19_append sb (nI cc) σ = some (r, σ') ∧ isSb σ'.1 sb v' (bcN cap n) (n + 1) (upN sg n cc) ∧ (n < cap ∧ v' = v ∧ σ'.2 = σ.2 ∨ n = cap ∧ v' = σ.2.1 ∧ σ'.2 = (σ.2.1 + 1, σ.2.2 + (2 * cap + 2))) ∧ ∀ q, q < σ.2.1 → q ≠ sb → q ≠ v → σ'.1 q = σ.1 q := by
  have o1 := bu_o H
  obtain ⟨i2, g, k1, k2, k3, k4, k5⟩ := H
  have hvs : v ≠ sb := fun z => by rw [z, k1] at k2; have k2 := congrArg Prod.snd (Option.some.inj k2); cases k2
  have g1 : gI σ sb 13 1 = some (nI 0) := by unfold gI gV; rw [k1]; rfl
  have g0 : gR σ sb 13 0 = some v := by unfold gR gV; rw [k1]; rfl
  have g3 : gI σ sb 13 3 = some (nI n) := by unfold gI gV; rw [k1]; rfl
  have al : aLn σ v = some (nI cap) := by unfold aLn; rw [k2]
  have can : KJ9_canEncode_2 (nI cc) = some (nI 1) := by
    unfold KJ9_canEncode_2 KJ9_canEncode_2_12
    rw [if_neg (nI_nlt (by omega) (by omega))]
    exact zr1
  have hb := fit_b cc hc
  -- the end
  have fin : ∀ (σ2 : vv_S) (v2 cap2 : Nat) (g2 : Nat → Int32), σ2.1 sb = some (true, .inr (13, [.ref v2, .int (nI 0), .int i2, .int (nI n)])) → σ2.1 v2 = some (true, .inl (.byte, cap2, .inl g2)) → n < cap2 → cap2 < 10000 → v2 ≠ sb → (∀ i, i < n → g2 i = nI (sg i)) → ∃ σ', ((isO σ2 sb 13).bind fun _ => (KJ18_isLatin1 sb σ2).bind fun r4 => if r4 = 0 then (KJ18_append_45 sb (nI cc) σ2) else ((KJ9_canEncode_2 (nI cc)).bind fun r7 => if r7 = 0 then (KJ18_append_45 sb (nI cc) σ2) else ((gR σ2 sb 13 0).bind fun v9 => (gI σ2 sb 13 3).bind fun v10 => (pF σ2 sb 13 3 (.int (v10 + (nI 1)))).bind fun σ11 => (sB σ11 v9 v10 (Int32.toInt8 (nI cc)).toInt32).bind fun σ12 => some (sb, σ12)))) = some (sb, σ') ∧ isSb σ'.1 sb v2 cap2 (n + 1) (upN sg n cc) ∧ fr (fun q => q = sb ∨ q = v2) σ2 σ' := by
    intro σ2 v2 cap2 g2 c1 c2 c3 c4 c5 c6
    have o2 : isO σ2 sb 13 = some () := by unfold isO; rw [c1]; rfl
    have l1 : KJ18_isLatin1 sb σ2 = some (nI 1) := by
      have g9 : gI σ2 sb 13 1 = some (nI 0) := by unfold gI gV; rw [c1]; rfl
      unfold KJ18_isLatin1 KJ18_isLatin1_18
      rw [if_neg s1_ne, g9, bdS, if_pos nI_0]
      exact zr1
    have w0 : gR σ2 sb 13 0 = some v2 := by unfold gR gV; rw [c1]; rfl
    have w3 : gI σ2 sb 13 3 = some (nI n) := by unfold gI gV; rw [c1]; rfl
    have p1 : pF σ2 sb 13 3 (.int (nI (n + 1))) = some (vv_up σ2.1 sb (true, .inr (13, [.ref v2, .int (nI 0), .int i2, .int (nI (n + 1))])), σ2.2) := by unfold pF; rw [c1]; rfl
    have p2 : sB (vv_up σ2.1 sb (true, .inr (13, [.ref v2, .int (nI 0), .int i2, .int (nI (n + 1))])), σ2.2) v2 (nI n) (Int32.toInt8 (nI cc)).toInt32 = some (vv_up (vv_up σ2.1 sb (true, .inr (13, [.ref v2, .int (nI 0), .int i2, .int (nI (n + 1))]))) v2 (true, .inl (.byte, cap2, .inl (upd g2 n (nI cc)))), σ2.2) := by
      unfold sB
      dsimp only
      rw [up_n c5, c2]
      show (if FieldType.byte = FieldType.byte ∧ ¬ ((nI n) < 0 ∨ cap2 ≤ (nI n).toNatClampNeg) then _ else none) = _
      rw [if_pos ⟨rfl, nI_in c3 (by omega)⟩, nI_clamp (by omega), hb.2]
    refine ⟨(vv_up (vv_up σ2.1 sb (true, .inr (13, [.ref v2, .int (nI 0), .int i2, .int (nI (n + 1))]))) v2 (true, .inl (.byte, cap2, .inl (upd g2 n (nI cc)))), σ2.2), ?_, ⟨i2, upd g2 n (nI cc), ?_, ?_, by omega, c4, fun i hi => ?_⟩, rfl, fun q hq => ?_⟩
    · simp only [o2, l1, if_neg s1_ne, can, w0, w3, nI_add, p1, p2, bdS]
    · show (vv_up _ v2 _) sb = _
      rw [up_n (Ne.symm c5), up_s]
    · show (vv_up _ v2 _) v2 = _
      rw [up_s]
    · unfold upN
      by_cases e : i = n
      · rw [e, upd_s, if_pos rfl]; exact ⟨rfl, hc⟩
      · rw [upd_n e, if_neg e]; exact ⟨c6 i (by omega), (k5 i (by omega)).2⟩
    · show (vv_up _ v2 _) q = _
      rw [up_n (fun z => hq (Or.inr z)), up_n (fun z => hq (Or.inl z))]
  have st : KJ19_append sb (nI cc) σ = ((KJ18_ensureCapacityInternal sb (nI (n + 1)) σ).bind fun σ2 => ((isO σ2 sb 13).bind fun _ => (KJ18_isLatin1 sb σ2).bind fun r4 => if r4 = 0 then (KJ18_append_45 sb (nI cc) σ2) else ((KJ9_canEncode_2 (nI cc)).bind fun r7 => if r7 = 0 then (KJ18_append_45 sb (nI cc) σ2) else ((gR σ2 sb 13 0).bind fun v9 => (gI σ2 sb 13 3).bind fun v10 => (pF σ2 sb 13 3 (.int (v10 + (nI 1)))).bind fun σ11 => (sB σ11 v9 v10 (Int32.toInt8 (nI cc)).toInt32).bind fun σ12 => some (sb, σ12))))).bind fun r1 => some (sb, r1.2) := by
    unfold KJ19_append KJ18_append
    simp only [o1, g3, nI_add, bdS]
  by_cases hn : n < cap
  · have ens : KJ18_ensureCapacityInternal sb (nI (n + 1)) σ = some σ := by
      unfold KJ18_ensureCapacityInternal KJ18_ensureCapacityInternal_38
      simp only [g0, al, g1, shr0 (show cap < 2 ^ 31 by omega), bdS]
      rw [if_pos]
      rw [ti_le, pk_sub_toInt (by omega) (by omega), ti_0]
      omega
    obtain ⟨σ', s1, S1, f1⟩ := fin σ v cap g k1 k2 hn k4 hvs (fun i hi => (k5 i hi).1)
    refine ⟨σ', v, sb, ?_, by unfold bcN; rw [if_pos hn]; exact S1, Or.inl ⟨hn, rfl, f1.1⟩, fun q _ h1 h2 => f1.2 q fun z => z.elim h1 h2⟩
    rw [st, ens, bdS, s1, bdS]
  · have hnc : n = cap := by omega
    have hm : mxI (nI (n + 1) - nI cap) (nI (cap + 2)) = nI (cap + 2) := by
      rw [hnc, pk_sub (by omega), show cap + 1 - cap = 1 by omega, ← mx_le, if_neg (nI_ge (by omega) (by omega))]
    have nl : KJ15_newLength (nI cap) (nI (n + 1) - nI cap) (nI (cap + 2)) = some (nI (2 * cap + 2)) := by
      unfold KJ15_newLength
      rw [hm, nI_add, if_neg (nI_ge (by omega) (by omega)), if_neg (nI_nlt (by omega) (by omega)), show cap + (cap + 2) = 2 * cap + 2 by omega]
    obtain ⟨σ1, hσ1⟩ : ∃ τ : vv_S, τ = (vv_up σ.1 σ.2.1 (true, .inl (.byte, 2 * cap + 2, .inl (fun _ => 0))), σ.2.1 + 1, σ.2.2 + (2 * cap + 2)) := ⟨_, rfl⟩
    have q1 : nwA σ .byte (nI (2 * cap + 2)) = some σ1 := by
      unfold nwA
      rw [if_neg (by rw [nI_clamp (by omega)]; intro h; rcases h with h | h; exact nI_pos (by omega) h; omega), nI_clamp (by omega), hσ1]
    have b0 : σ1.1 σ.2.1 = some (true, .inl (.byte, 2 * cap + 2, .inl (fun _ => 0))) := by rw [hσ1]; exact up_s
    have b1 : ∀ q, q < σ.2.1 → σ1.1 q = σ.1 q := fun q hq => by rw [hσ1]; exact up_n (by omega)
    have b2 : σ1.2 = (σ.2.1 + 1, σ.2.2 + (2 * cap + 2)) := by rw [hσ1]
    have al1 : aLn σ1 v = some (nI cap) := by unfold aLn; rw [b1 v hlt.2, k2]
    obtain ⟨σ2, hσ2⟩ : ∃ τ : vv_S, τ = (vv_up σ1.1 σ.2.1 (true, .inl (.byte, 2 * cap + 2, .inl (va_cpy g (fun _ => 0) 0 0 cap))), σ1.2) := ⟨_, rfl⟩
    have q2 : cpB σ1 v (nI 0) σ.2.1 (nI 0) (mnI (nI cap) (nI (2 * cap + 2))) = some σ2 := by
      rw [mn_nI (by omega) (by omega), Nat.min_eq_left (by omega), hσ2]
      unfold cpB
      rw [b1 v hlt.2, k2, b0]
      show (if FieldType.byte = FieldType.byte ∧ FieldType.byte = FieldType.byte ∧ ¬ nI 0 < 0 ∧ ¬ nI 0 < 0 ∧ ¬ nI cap < 0 ∧ (nI 0).toNatClampNeg + (nI cap).toNatClampNeg ≤ cap ∧ (nI 0).toNatClampNeg + (nI cap).toNatClampNeg ≤ 2 * cap + 2 ∧ (List.range (nI cap).toNatClampNeg).all (fun i => fits .byte (.int (g ((nI 0).toNatClampNeg + i)))) = true then some (vv_up σ1.1 σ.2.1 (true, .inl (.byte, 2 * cap + 2, .inl (va_cpy g (fun _ => 0) (nI 0).toNatClampNeg (nI 0).toNatClampNeg (nI cap).toNatClampNeg))), σ1.2) else none) = _
      rw [nI_clamp (show 0 < 2 ^ 31 by omega), nI_clamp (show cap < 2 ^ 31 by omega), if_pos]
      refine ⟨rfl, rfl, nI_pos (by omega), nI_pos (by omega), nI_pos (by omega), by omega, by omega, ?_⟩
      rw [List.all_eq_true]
      intro i hi
      rw [List.mem_range] at hi
      obtain ⟨e1, e2⟩ := k5 i (by omega)
      rw [Nat.zero_add, e1]
      exact (fit_b _ e2).1
    have c0 : σ2.1 σ.2.1 = some (true, .inl (.byte, 2 * cap + 2, .inl (va_cpy g (fun _ => 0) 0 0 cap))) := by rw [hσ2]; exact up_s
    have c1 : ∀ q, q < σ.2.1 → σ2.1 q = σ.1 q := fun q hq => by rw [hσ2]; exact (up_n (by omega)).trans (b1 q hq)
    obtain ⟨σ3, hσ3⟩ : ∃ τ : vv_S, τ = (vv_up σ2.1 sb (true, .inr (13, [.ref σ.2.1, .int (nI 0), .int i2, .int (nI n)])), σ2.2) := ⟨_, rfl⟩
    have q3 : pF σ2 sb 13 0 (.ref σ.2.1) = some σ3 := by
      rw [hσ3]
      unfold pF
      rw [c1 sb hlt.1, k1]
      rfl
    have d0 : σ3.1 sb = some (true, .inr (13, [.ref σ.2.1, .int (nI 0), .int i2, .int (nI n)])) := by rw [hσ3]; exact up_s
    have d1 : ∀ q, q ≠ sb → σ3.1 q = σ2.1 q := fun q hq => by rw [hσ3]; exact up_n hq
    have hne : σ.2.1 ≠ sb := by omega
    have ens : KJ18_ensureCapacityInternal sb (nI (n + 1)) σ = some σ3 := by
      unfold KJ18_ensureCapacityInternal KJ18_ensureCapacityInternal_38
      simp only [g0, al, g1, shr0 (show cap < 2 ^ 31 by omega), bdS]
      rw [if_neg]
      · unfold KJ18_newCapacity KJ16_copyOf_3
        simp only [g0, al, g1, o1, shl0 (show n + 1 < 2 ^ 31 by omega), shl0 (show 2 < 2 ^ 31 by omega), nI_add, nl, bdS]
        rw [if_neg (nI_nn (by omega) (by omega) (by omega))]
        simp only [g1, shr0 (show 2 * cap + 2 < 2 ^ 31 by omega), shl0 (show 2 * cap + 2 < 2 ^ 31 by omega), al, bdS]
        rw [if_neg (nI_nn (by omega) (by omega) (by omega))]
        simp only [q1, al1, q2, q3, bdS]
      · rw [ti_le, pk_sub_toInt (by omega) (by omega), ti_0]
        omega
    obtain ⟨σ', s1, S1, f1⟩ := fin σ3 σ.2.1 (2 * cap + 2) (va_cpy g (fun _ => 0) 0 0 cap) d0 ((d1 _ hne).trans c0) (by omega) (by omega) hne (fun i hi => by
      unfold va_cpy
      rw [if_pos ⟨by omega, by omega⟩, show 0 + (i - 0) = i by omega]
      exact (k5 i hi).1)
    refine ⟨σ', σ.2.1, sb, ?_, by unfold bcN; rw [if_neg hn]; exact S1, Or.inr ⟨hnc, rfl, ?_⟩, fun q h1 h2 h3 => ?_⟩
    · rw [st, ens, bdS, s1, bdS]
    · rw [f1.1, hσ3, hσ2, b2]
    · rw [f1.2 q (fun z => z.elim h2 (fun z => by omega)), d1 q h2, c1 q h1]
end FO
