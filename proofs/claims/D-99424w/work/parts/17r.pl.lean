/-! the plain law: lists with their room told -/
set_option maxRecDepth 100000
/-- a list at l, its array e with room for cap: n of g -/
def isMc (σ : vv_S) (ad : Nat → Nat) (l e cap n : Nat) (g : Nat → Nat) : Prop := ∃ (mc : Int32) (b : Bool) (gg : Nat → Option Nat), σ.1 l = some (true, .inr (11, [.int mc, .ref e, .int (nI n)])) ∧ σ.1 e = some (obE b cap gg) ∧ (cap = 0 ∨ b = true) ∧ (cap = 0 ↔ e = ad 0 ∨ e = ad 1) ∧ n ≤ cap ∧ cap < 1048576 ∧ (∀ i, i < n → gg i = some (g i) ∧ anyK σ "java/lang/Object" (g i) = true) ∧ ∀ i, n ≤ i → i < cap → gg i = none
/-- the room behind one more -/
def capN (ad : Nat → Nat) (e n : Nat) : Nat := if e = ad 0 then 10 else n + max 1 (n / 2)
section MC
variable {σ : vv_S} {ad : Nat → Nat} {l e cap n v : Nat} {g : Nat → Nat} {gg : Nat → Option Nat} {mc : Int32}
theorem isMc.li (h : isMc σ ad l e cap n g) : isLi σ.1 l n g := by
  obtain ⟨mc, b, gg, h1, h2, -, -, h5, h6, h7, -⟩ := h
  exact ⟨true, b, mc, e, cap, gg, h1, h2, h5, h6, fun i hi => (h7 i hi).1⟩
theorem isMc.ke {σ' : vv_S} (h : isMc σ ad l e cap n g) (h1 : σ'.1 l = σ.1 l) (h2 : σ'.1 e = σ.1 e) (h3 : ∀ i, i < n → anyK σ "java/lang/Object" (g i) = true → anyK σ' "java/lang/Object" (g i) = true) : isMc σ' ad l e cap n g := by
  obtain ⟨mc, b, gg, k1, k2, k3, k4, k5, k6, k7, k8⟩ := h
  exact ⟨mc, b, gg, h1.trans k1, h2.trans k2, k3, k4, k5, k6, fun i hi => ⟨(k7 i hi).1, h3 i hi (k7 i hi).2⟩, k8⟩
theorem isMc.ext {g' : Nat → Nat} (h : isMc σ ad l e cap n g) (hg : ∀ i, i < n → g' i = g i) : isMc σ ad l e cap n g' := by
  obtain ⟨mc, b, gg, k1, k2, k3, k4, k5, k6, k7, k8⟩ := h
  exact ⟨mc, b, gg, k1, k2, k3, k4, k5, k6, fun i hi => by rw [hg i hi]; exact k7 i hi, k8⟩
/-- a new list -/
theorem K_lnew (hl : ∃ fs, σ.1 l = some (true, .inr (11, fs)) ∧ fs = [.int 0, .null, .int 0]) (h0 : ∃ b gg, σ.1 (ad 0) = some (obE b 0 gg)) : ∃ σ', KJ2_init ad l σ = some σ' ∧ isMc σ' ad l (ad 0) 0 0 g ∧ fr (fun q => q = l) σ σ' := by
  obtain ⟨σ', s1, M, f1⟩ := K_linit (g := g) hl h0
  refine ⟨σ', s1, ?_, f1⟩
  obtain ⟨mc, b, cap, gg, k1, k2, k3, k4, k5, k6, k7, k8⟩ := M
  have hc : cap = 0 := k4.mpr rfl
  subst hc
  exact ⟨mc, b, gg, k1, k2, k3, ⟨fun _ => Or.inl rfl, fun _ => rfl⟩, k5, by omega, k7, k8⟩
theorem K_growc {b : Bool} (h1 : σ.1 l = some (true, .inr (11, [.int mc, .ref e, .int (nI n)]))) (h2 : σ.1 e = some (obE b n gg)) (h0 : e = ad 0 → n = 0) (hn : n ≤ 1000) (hlt : l < σ.2.1 ∧ e < σ.2.1) (hy : ∀ i, i < n → ∃ y, gg i = some y ∧ y < σ.2.1 ∧ anyK σ "java/lang/Object" y = true) : ∃ σ' gg', KJ2_grow ad l σ = some (σ.2.1, σ') ∧ n < capN ad e n ∧ capN ad e n ≤ 2000 ∧ σ'.1 l = some (true, .inr (11, [.int mc, .ref σ.2.1, .int (nI n)])) ∧ σ'.1 σ.2.1 = some (obE true (capN ad e n) gg') ∧ (∀ i, i < n → gg' i = gg i) ∧ (∀ i, n ≤ i → gg' i = none) ∧ σ'.2 = (σ.2.1 + 1, σ.2.2 + capN ad e n) ∧ ∀ q, q ≠ l → q ≠ σ.2.1 → σ'.1 q = σ.1 q := by
  have hne := le_ne h1 h2
  have g2 : gI σ l 11 2 = some (nI n) := by unfold gI gV; rw [h1]; rfl
  have g1 : gR σ l 11 1 = some e := by unfold gR gV; rw [h1]; rfl
  have o1 : isO σ l 11 = some () := by unfold isO; rw [h1]; rfl
  have al : aLn σ e = some (nI n) := by unfold aLn; rw [h2]; rfl
  have ia : isA σ e vObj = some () := by unfold isA; rw [h2]; rfl
  by_cases he : e = ad 0
  · have hz := h0 he
    have hc : capN ad e n = 10 := by unfold capN; rw [if_pos he]
    rw [hc]
    have q1 : nwQ σ "java/lang/Object" (mxI (nI 10) (nI (n + 1))) = some (vv_up σ.1 σ.2.1 (obE true 10 (fun _ => none)), σ.2.1 + 1, σ.2.2 + 10) := by
      rw [hz]
      rfl
    have q2 : pF (vv_up σ.1 σ.2.1 (obE true 10 (fun _ => none)), σ.2.1 + 1, σ.2.2 + 10) l 11 1 (.ref σ.2.1) = some (vv_up (vv_up σ.1 σ.2.1 (obE true 10 (fun _ => none))) l (true, .inr (11, [.int mc, .ref σ.2.1, .int (nI n)])), σ.2.1 + 1, σ.2.2 + 10) := by
      unfold pF
      dsimp only
      rw [up_n (by omega), h1]
      rfl
    refine ⟨(vv_up (vv_up σ.1 σ.2.1 (obE true 10 (fun _ => none))) l (true, .inr (11, [.int mc, .ref σ.2.1, .int (nI n)])), σ.2.1 + 1, σ.2.2 + 10), fun _ => none, ?_, by omega, by omega, up_s, ?_, fun i hi => by omega, fun _ _ => rfl, rfl, fun q a b => ?_⟩
    · unfold KJ2_grow KJ2_grow_2
      simp only [g2, o1, g1, al, nI_add, bdS]
      rw [if_neg (by rw [hz]; decide), if_pos he]
      simp only [q1, q2, bdS]
    · show (vv_up _ l _) σ.2.1 = _
      rw [up_n (by omega), up_s]
    · show (vv_up _ l _) q = _
      rw [up_n a, up_n b]
  · have hc0 : capN ad e n = n + max 1 (n / 2) := by unfold capN; rw [if_neg he]
    rw [hc0]
    have hcap : KJ15_newLength (nI n) (nI (n + 1) - nI n) (nI n >>> (nI 1 &&& 31)) = some (nI (n + max 1 (n / 2))) := by
      have hm : mxI (nI 1) (nI (n / 2)) = nI (max 1 (n / 2)) := by
        rw [← mx_le]
        by_cases h : n / 2 ≤ 1
        · rw [if_pos (nI_le h (by omega)), Nat.max_eq_left h]
        · rw [if_neg (nI_ge (by omega) (by omega)), Nat.max_eq_right (by omega)]
      unfold KJ15_newLength
      rw [pk_sub (by omega), sh_1 n (by omega), show n + 1 - n = 1 by omega, hm, nI_add, if_neg (nI_ge (by omega) (by omega)), if_neg (nI_nlt (by omega) (by omega))]
    have hmx : max 1 (n / 2) ≤ n + 10 ∧ 1 ≤ max 1 (n / 2) := ⟨by omega, by omega⟩
    obtain ⟨cap, hc⟩ : ∃ cap, cap = n + max 1 (n / 2) := ⟨_, rfl⟩
    rw [← hc] at hcap
    rw [← hc]
    have q1 : nwQ σ "java/lang/Object" (nI cap) = some (vv_up σ.1 σ.2.1 (obE true cap (fun _ => none)), σ.2.1 + 1, σ.2.2 + cap) := by
      unfold nwQ
      rw [if_neg (by rw [nI_clamp (by omega)]; intro h; rcases h with h | h; exact nI_pos (by omega) h; omega), nI_clamp (by omega)]
      rfl
    have al2 : aLn (vv_up σ.1 σ.2.1 (obE true cap (fun _ => none)), σ.2.1 + 1, σ.2.2 + cap) e = some (nI n) := by
      unfold aLn
      dsimp only
      rw [up_n (by omega), h2]
      rfl
    have q3 : cpQ (vv_up σ.1 σ.2.1 (obE true cap (fun _ => none)), σ.2.1 + 1, σ.2.2 + cap) e (nI 0) σ.2.1 (nI 0) (mnI (nI n) (nI cap)) = some (vv_up (vv_up σ.1 σ.2.1 (obE true cap (fun _ => none))) σ.2.1 (obE true cap (va_cpy gg (fun _ => none) 0 0 n)), σ.2.1 + 1, σ.2.2 + cap) := by
      rw [mn_nI (by omega) (by omega), Nat.min_eq_left (by omega)]
      unfold cpQ
      dsimp only
      rw [up_n (show e ≠ σ.2.1 by omega), up_s, h2]
      show (if ¬ nI 0 < 0 ∧ ¬ nI 0 < 0 ∧ ¬ nI n < 0 ∧ (nI 0).toNatClampNeg + (nI n).toNatClampNeg ≤ n ∧ (nI 0).toNatClampNeg + (nI n).toNatClampNeg ≤ cap ∧ (List.range (nI n).toNatClampNeg).all (fun i => match gg ((nI 0).toNatClampNeg + i) with | none => true | some y => anyK (vv_up σ.1 σ.2.1 (obE true cap (fun _ => none)), σ.2.1 + 1, σ.2.2 + cap) "java/lang/Object" y) = true then some (vv_up (vv_up σ.1 σ.2.1 (obE true cap (fun _ => none))) σ.2.1 (true, .inl (vObj, cap, .inr (.inr (.inr (.inr (va_cpy gg (fun _ => none) (nI 0).toNatClampNeg (nI 0).toNatClampNeg (nI n).toNatClampNeg)))))), σ.2.1 + 1, σ.2.2 + cap) else none) = _
      rw [nI_clamp (show 0 < 2 ^ 31 by omega), nI_clamp (show n < 2 ^ 31 by omega), if_pos]
      · rfl
      · refine ⟨nI_pos (by omega), nI_pos (by omega), nI_pos (by omega), by omega, by omega, ?_⟩
        rw [List.all_eq_true]
        intro i hi
        rw [List.mem_range] at hi
        obtain ⟨y, y1, y2, y3⟩ := hy i hi
        rw [Nat.zero_add, y1]
        dsimp only
        rw [any_k (σ := σ) (up_n (by omega))]
        exact y3
    have q4 : pF (vv_up (vv_up σ.1 σ.2.1 (obE true cap (fun _ => none))) σ.2.1 (obE true cap (va_cpy gg (fun _ => none) 0 0 n)), σ.2.1 + 1, σ.2.2 + cap) l 11 1 (.ref σ.2.1) = some (vv_up (vv_up (vv_up σ.1 σ.2.1 (obE true cap (fun _ => none))) σ.2.1 (obE true cap (va_cpy gg (fun _ => none) 0 0 n))) l (true, .inr (11, [.int mc, .ref σ.2.1, .int (nI n)])), σ.2.1 + 1, σ.2.2 + cap) := by
      unfold pF
      dsimp only
      rw [up_n (by omega), up_n (by omega), h1]
      rfl
    refine ⟨(vv_up (vv_up (vv_up σ.1 σ.2.1 (obE true cap (fun _ => none))) σ.2.1 (obE true cap (va_cpy gg (fun _ => none) 0 0 n))) l (true, .inr (11, [.int mc, .ref σ.2.1, .int (nI n)])), σ.2.1 + 1, σ.2.2 + cap), va_cpy gg (fun _ => none) 0 0 n, ?_, by omega, by omega, up_s, ?_, fun i hi => ?_, fun i hi => ?_, rfl, fun q a b => ?_⟩
    · unfold KJ2_grow KJ2_grow_2 KJ2_grow_2_20 KJ16_copyOf KJ16_copyOf_2
      simp only [g2, o1, g1, al, nI_add, bdS]
      by_cases hz : n = 0
      · rw [if_neg (by rw [hz]; decide), if_neg he]
        simp only [hcap, ia, if_true, q1, al2, q3, q4, bdS]
      · rw [if_pos (by rw [ti_lt, ti_0, ti_n (by omega)]; omega)]
        simp only [hcap, ia, if_true, q1, al2, q3, q4, bdS]
    · show (vv_up _ l _) σ.2.1 = _
      rw [up_n (by omega), up_s]
    · unfold va_cpy; rw [if_pos ⟨by omega, by omega⟩]; congr 1; omega
    · unfold va_cpy; rw [if_neg (by omega)]
    · show (vv_up _ l _) q = _
      rw [up_n a, up_n b, up_n b]
/-- one is added, the room told -/
theorem K_addc (M : isMc σ ad l e cap n g) (hn : n ≤ 1000) (hlt : l < σ.2.1 ∧ e < σ.2.1 ∧ ad 0 < σ.2.1 ∧ ad 1 < σ.2.1) (hv : v < σ.2.1 ∧ anyK σ "java/lang/Object" v = true) (hg : ∀ i, i < n → g i < σ.2.1) : ∃ σ' e' cap', KJ2_add ad l v σ = some (nI 1, σ') ∧ isMc σ' ad l e' cap' (n + 1) (upN g n v) ∧ (n < cap ∧ e' = e ∧ cap' = cap ∧ σ'.2 = σ.2 ∨ n = cap ∧ e' = σ.2.1 ∧ cap' = capN ad e n ∧ σ'.2 = (σ.2.1 + 1, σ.2.2 + capN ad e n)) ∧ ∀ q, q < σ.2.1 → q ≠ l → (q ≠ e ∨ cap = 0) → σ'.1 q = σ.1 q := by
  obtain ⟨mc, b, gg, k1, k2, k3, k4, k5, k6, k7, k8⟩ := M
  have hne := le_ne k1 k2
  obtain ⟨σ1, hσ1⟩ : ∃ σ1 : vv_S, σ1 = (vv_up σ.1 l (true, .inr (11, [.int (mc + nI 1), .ref e, .int (nI n)])), σ.2) := ⟨_, rfl⟩
  have s1 : pF σ l 11 0 (.int (mc + nI 1)) = some σ1 := by rw [hσ1]; unfold pF; rw [k1]; rfl
  have a1 : σ1.1 l = some (true, .inr (11, [.int (mc + nI 1), .ref e, .int (nI n)])) := by rw [hσ1]; exact up_s
  have a2 : ∀ q, q ≠ l → σ1.1 q = σ.1 q := fun q hq => by rw [hσ1]; exact up_n hq
  have a3 : σ1.2 = σ.2 := by rw [hσ1]
  have b1 : σ1.1 e = some (obE b cap gg) := (a2 e hne).trans k2
  have g0 : gI σ l 11 0 = some mc := by unfold gI gV; rw [k1]; rfl
  have g1 : gR σ1 l 11 1 = some e := by unfold gR gV; rw [a1]; rfl
  have g2 : gI σ1 l 11 2 = some (nI n) := by unfold gI gV; rw [a1]; rfl
  have o1 : isO σ1 l 11 = some () := by unfold isO; rw [a1]; rfl
  have al : aLn σ1 e = some (nI cap) := by unfold aLn; rw [b1]; rfl
  have fin : ∀ (σ2 : vv_S) (e2 cap2 : Nat) (gg2 : Nat → Option Nat), σ2.1 l = some (true, .inr (11, [.int (mc + nI 1), .ref e2, .int (nI n)])) → σ2.1 e2 = some (obE true cap2 gg2) → n < cap2 → cap2 < 1048576 → ¬ (e2 = ad 0 ∨ e2 = ad 1) → (∀ i, i < n → gg2 i = some (g i)) → (∀ i, n ≤ i → i < cap2 → gg2 i = none) → (∀ y, y < σ.2.1 → y ≠ l → anyK σ "java/lang/Object" y = true → σ2.1 y = σ.1 y) → ∃ σ', KJ2_add_2_11 ad l v e2 (nI n) σ2 = some σ' ∧ isMc σ' ad l e2 cap2 (n + 1) (upN g n v) ∧ fr (fun q => q = l ∨ q = e2) σ2 σ' := by
    intro σ2 e2 cap2 gg2 c1 c2 c3 c4 c5 c6 c7 c8
    have hv2 : anyK σ2 "java/lang/Object" v = true := any_s hv.2 c1 fun h => c8 v hv.1 h hv.2
    obtain ⟨σ3, s3, d1, d2, f3⟩ := K_put (ad := ad) c1 c2 c3 (by omega) hv2
    have ak : ∀ y, y < σ.2.1 → anyK σ "java/lang/Object" y = true → anyK σ3 "java/lang/Object" y = true := fun y y1 y2 => any_s y2 d1 fun h => by
      have h2 : anyK σ2 "java/lang/Object" y = true := by rw [any_k (c8 y y1 h y2)]; exact y2
      rw [f3.2 y (fun z => z.elim h (any_e c2 h2))]
      exact c8 y y1 h y2
    refine ⟨σ3, s3, ⟨mc + nI 1, true, va_up gg2 n (some v), d1, d2, Or.inr rfl, ⟨fun h => by omega, fun h => absurd h c5⟩, by omega, c4, fun i hi => ?_, fun i h1 h2 => ?_⟩, f3⟩
    · unfold va_up upN
      by_cases e : i = n
      · rw [if_pos e, if_pos e]
        exact ⟨rfl, ak v hv.1 hv.2⟩
      · rw [if_neg e, if_neg e]
        exact ⟨c6 i (by omega), ak (g i) (hg i (by omega)) (k7 i (by omega)).2⟩
    · unfold va_up
      rw [if_neg (by omega)]
      exact c7 i (by omega) h2
  by_cases hnc : n = cap
  · have b1' : σ1.1 e = some (obE b n gg) := by rw [hnc]; exact b1
    obtain ⟨σ2, gg2, s2, c1, c2, c3, c4, c5, c6, c7, c8⟩ := K_growc (ad := ad) a1 b1' (fun h => by rw [hnc]; exact k4.mpr (Or.inl h)) (by omega) (by rw [a3]; exact ⟨hlt.1, hlt.2.1⟩) (fun i hi => ⟨g i, (k7 i hi).1, by rw [a3]; exact hg i hi, any_s (k7 i hi).2 a1 (a2 _)⟩)
    rw [a3] at s2 c3 c4 c7 c8
    obtain ⟨σ3, s3, M3, f3⟩ := fin σ2 σ.2.1 (capN ad e n) gg2 c3 c4 c1 (by omega) (by have := hlt.2.2; omega) (fun i hi => (c5 i hi).trans (k7 i hi).1) (fun i h1 _ => c6 i h1) (fun y y1 y2 _ => (c8 y y2 (by omega)).trans (a2 y y2))
    refine ⟨σ3, σ.2.1, capN ad e n, ?_, M3, Or.inr ⟨hnc, rfl, rfl, by rw [f3.1, c7]⟩, fun q h1 h2 h3 => ?_⟩
    · unfold KJ2_add KJ2_add_2
      simp only [g0, s1, g1, g2, o1, al, hnc, if_true, bdS]
      rw [hnc] at s3
      simp only [s2, s3, bdS]
    · rw [f3.2 q (fun z => z.elim h2 (fun z => by omega)), c8 q h2 (by omega), a2 q h2]
  · have hb : b = true := k3.resolve_left (by omega)
    subst hb
    have hea : ¬ (e = ad 0 ∨ e = ad 1) := fun h => by have := k4.mpr h; omega
    obtain ⟨σ3, s3, M3, f3⟩ := fin σ1 e cap gg a1 b1 (by omega) k6 hea (fun i hi => (k7 i hi).1) k8 (fun y _ y2 _ => a2 y y2)
    refine ⟨σ3, e, cap, ?_, M3, Or.inl ⟨by omega, rfl, rfl, by rw [f3.1, a3]⟩, fun q h1 h2 h3 => ?_⟩
    · unfold KJ2_add KJ2_add_2
      simp only [g0, s1, g1, g2, o1, al, if_neg (nI_nn hnc (by omega) (by omega)), s3, bdS]
    · rw [f3.2 q (fun z => z.elim h2 (fun z => h3.elim (fun y => y z) (fun y => by omega))), a2 q h2]
end MC
