section
/-! rows taken over from kit/laws/BITS (family wb_) -/
theorem wb_tb (n : Nat) : (lN n).toBitVec = BitVec.ofNat 64 n := rfl
theorem wb_inj {a b : Int64} (h : a.toBitVec = b.toBitVec) : a = b := Int64.toBitVec_inj.mp h
theorem wb_tn {n : Nat} (h : n < 2 ^ 64) : (lN n).toBitVec.toNat = n := by rw [wb_tb, BitVec.toNat_ofNat, Nat.mod_eq_of_lt h]
theorem wb_cu : ∀ k, k < 64 → ((nI k).toInt64.toUInt64 &&& Int64.toUInt64 63) = UInt64.ofNat k := by decide +kernel
theorem wb_lt2 {a b : Nat} (h : a < b) : 2 ^ a < 2 ^ b := Nat.pow_lt_pow_right (by decide) h
theorem wb_shr {n k : Nat} (hn : n < 2 ^ 64) (hk : k < 64) : ((lN n).toUInt64 >>> ((nI k).toInt64.toUInt64 &&& Int64.toUInt64 63)).toInt64 = lN (n / 2 ^ k) := by
  rw [wb_cu k hk]
  apply wb_inj
  apply BitVec.eq_of_toNat_eq
  show ((lN n).toUInt64 >>> UInt64.ofNat k).toNat = (BitVec.ofNat 64 _).toNat
  have h1 : (UInt64.ofNat k).toNat = k := by
    show (BitVec.ofNat 64 k).toNat = k
    rw [BitVec.toNat_ofNat, Nat.mod_eq_of_lt (by omega)]
  have h2 : (lN n).toUInt64.toNat = n := wb_tn hn
  rw [UInt64.toNat_shiftRight, h1, h2, Nat.mod_eq_of_lt hk, Nat.shiftRight_eq_div_pow, BitVec.toNat_ofNat, Nat.mod_eq_of_lt (Nat.lt_of_le_of_lt (Nat.div_le_self _ _) hn)]
theorem wb_and {a b : Nat} (ha : a < 2 ^ 64) (hb : b < 2 ^ 64) : lN a &&& lN b = lN (a &&& b) := by
  apply wb_inj
  rw [Int64.toBitVec_and, wb_tb, wb_tb, wb_tb]
  apply BitVec.eq_of_toNat_eq
  rw [BitVec.toNat_and, BitVec.toNat_ofNat, BitVec.toNat_ofNat, BitVec.toNat_ofNat, Nat.mod_eq_of_lt ha, Nat.mod_eq_of_lt hb, Nat.mod_eq_of_lt (Nat.and_lt_two_pow _ hb)]
theorem wb_mask {n k : Nat} (hn : n < 2 ^ 64) (hk : k < 64) : lN n &&& lN (2 ^ k - 1) = lN (n % 2 ^ k) := by
  rw [wb_and hn (by have := wb_lt2 hk; omega), Nat.and_two_pow_sub_one_eq_mod]
/-! the field of 2^31 - 1 elements: plus, minus, times over naturals below it -/
theorem qc_plus {post : Int32 → Prop} {u : St0} {a b : Nat} (ha : a < 2147483647) (hb : b < 2147483647) (h : post (nI ((a + b) % 2147483647))) : wpX_plus post u (nI a) (nI b) := by
  unfold wpX_plus
  refine nm_r (e' := lN (a + b)) (by rw [nI_l (by omega), nI_l (by omega), lN_add]) ?_
  rcases Nat.lt_or_ge (a + b) 2147483647 with z | z
  · refine br_t ((pk_lLT (b := 2147483647) (by omega) (by omega)).mpr z) ?_
    rw [lN_i]
    rw [Nat.mod_eq_of_lt z] at h
    exact h
  · have z' : ¬ lN (a + b) < lN 2147483647 := fun g => absurd ((pk_lLT (by omega) (by omega)).mp g) (by omega)
    refine br_f z' ?_
    have e : lN (a + b) - 2147483647 = lN (a + b - 2147483647) := lN_sub z
    rw [e, lN_i]
    rw [show (a + b) % 2147483647 = a + b - 2147483647 by omega] at h
    exact h
theorem qc_subI {a b : Nat} (ha : a < 2147483648) (hb : b < 2147483648) : (nI a - nI b).toInt = (a : Int) - b := by
  rw [Int32.toInt_sub, nI_toInt (by omega), nI_toInt (by omega)]
  exact Int.bmod_eq_of_le (by omega) (by omega)
theorem qc_minus {post : Int32 → Prop} {u : St0} {a b : Nat} (ha : a < 2147483647) (hb : b < 2147483647) (h : post (nI ((a + 2147483647 - b) % 2147483647))) : wpX_minus post u (nI a) (nI b) := by
  unfold wpX_minus
  refine nm_e ?_
  rcases Nat.lt_or_ge a b with z | z
  · have z' : ¬ (0 : Int32) ≤ nI a - nI b := by
      rw [Int32.le_iff_toInt_le, qc_subI (by omega) (by omega), show (0 : Int32).toInt = 0 from by decide]
      omega
    refine br_f z' ?_
    have e : nI a - nI b + 2147483647 = nI (a + 2147483647 - b) := by
      rw [← pk_sub (show b ≤ a + 2147483647 by omega), ← nI_add]
      show nI a - nI b + nI 2147483647 = nI a + nI 2147483647 - nI b
      grind
    rw [e]
    rw [Nat.mod_eq_of_lt (show a + 2147483647 - b < 2147483647 by omega)] at h
    exact h
  · rw [pk_sub z]
    refine br_t (nI_pos' (by omega)) ?_
    rw [show (a + 2147483647 - b) % 2147483647 = a - b by omega] at h
    exact h
theorem qc_fold {n : Nat} (h : n ≤ 2147483646 * 2147483646) (z : n % 2147483648 + n / 2147483648 < 2147483647) : n % 2147483647 = n % 2147483648 + n / 2147483648 := by omega
theorem qc_fold2 {n : Nat} (h : n ≤ 2147483646 * 2147483646) (z : 2147483647 ≤ n % 2147483648 + n / 2147483648) : n % 2147483647 = n % 2147483648 + n / 2147483648 - 2147483647 := by omega
theorem qc_times {post : Int32 → Prop} {u : St0} {a b : Nat} (ha : a < 2147483647) (hb : b < 2147483647) (h : post (nI (a * b % 2147483647))) : wpX_times post u (nI a) (nI b) := by
  have hn : a * b ≤ 2147483646 * 2147483646 := Nat.mul_le_mul (by omega) (by omega)
  unfold wpX_times
  refine nm_r (e' := lN (a * b)) (by rw [nI_l (by omega), nI_l (by omega), lN_mul]) ?_
  generalize a * b = n at hn h
  have e1 : lN n &&& 2147483647 = lN (n % 2147483648) := wb_mask (k := 31) (by omega) (by decide)
  have e2 : ((lN n).toUInt64 >>> ((31 : Int32).toInt64.toUInt64 &&& Int64.toUInt64 63)).toInt64 = lN (n / 2147483648) := wb_shr (k := 31) (by omega) (by decide)
  refine nm_r (e' := lN (n % 2147483648 + n / 2147483648)) (by rw [e1, e2, lN_add]) ?_
  rcases Nat.lt_or_ge (n % 2147483648 + n / 2147483648) 2147483647 with z | z
  · refine br_t ((pk_lLT (b := 2147483647) (by omega) (by omega)).mpr z) ?_
    rw [lN_i]
    rw [qc_fold hn z] at h
    exact h
  · have z' : ¬ lN (n % 2147483648 + n / 2147483648) < lN 2147483647 := fun g => absurd ((pk_lLT (by omega) (by omega)).mp g) (by omega)
    refine br_f z' ?_
    have e : lN (n % 2147483648 + n / 2147483648) - 2147483647 = lN (n % 2147483648 + n / 2147483648 - 2147483647) := lN_sub z
    rw [e, lN_i]
    rw [qc_fold2 hn z] at h
    exact h
end
section
theorem qc_addTo {post : St2 → Prop} {fv fm fs fg fr ft : Int32} {a1 a2 a3 a4 a5 a6 a7 a8 : Nat → Int32} {x p1 p2 : Int32} {t a b h : Nat} (hx : x = nI t) (ht : t < 3) (h1 : p1 = nI a) (h2 : p2 = nI b) (h3 : a6 t = nI h) (ha : a < 2147483647) (hb : b < 2147483647) (hh : h < 2147483647)
    (H : post (fv, fm, fs, fg, fr, ft, a1, a2, a3, a4, a5, upd a6 t (nI ((h + a * b % 2147483647) % 2147483647)), a7, a8)) : wpX_addTo post (fv, fm, fs, fg, fr, ft, a1, a2, a3, a4, a5, a6, a7, a8) x p1 p2 := by
  subst hx h1 h2
  unfold wpX_addTo
  refine qc_times ha hb ⟨pk_in t 3 ht, ?_⟩
  rw [nI_clamp (show t < 2 ^ 31 by omega), h3]
  exact qc_plus hh (Nat.mod_lt _ (by decide)) ⟨pk_in t 3 ht, nm_e H⟩
theorem qc_beyondOne {post : Int32 → Prop} {u : St0} {p0 p1 : Int32} {a b : Nat} (h0 : p0 = nI a) (h1 : p1 = nI b) (ha : a < 2147483647) (hb : b < 2147483647) (H : post (nI (((b + b) % 2147483647 + 2147483647 - a) % 2147483647))) : wpX_beyondOne post u p0 p1 := by
  subst h0 h1
  unfold wpX_beyondOne
  exact qc_plus hb hb (qc_minus (Nat.mod_lt _ (by decide)) ha H)
theorem qc_c0 : ((2 : Int32) * 0).toNatClampNeg = 0 := by decide
theorem qc_c1 : ((2 : Int32) * 0 + 1).toNatClampNeg = 1 := by decide
theorem qc_cl1 : (nI 1).toNatClampNeg = 1 := by decide
theorem qc_cl1' : (1 : Int32).toNatClampNeg = 1 := by decide
theorem qc_h0 {a : Nat} (ha : a ≤ 1) : (0 + a * 1 % 2147483647) % 2147483647 = a := by omega
theorem qc_h2 {a b : Nat} (ha : a ≤ 1) (hb : b ≤ 1) : (0 + ((b + b) % 2147483647 + 2147483647 - a) % 2147483647 * (((1 + 1) % 2147483647 + 2147483647 - 1) % 2147483647) % 2147483647) % 2147483647 = (2 * b + 2147483647 - a) % 2147483647 := by
  rw [show ((1 + 1) % 2147483647 + 2147483647 - 1) % 2147483647 = 1 from by decide, Nat.mul_one]
  omega
theorem qc_sum {post : St2 → Prop} {fv fm fs fg fr : Int32} {a1 a2 a3 a4 a5 a6 a7 a8 : Nat → Int32} {a b : Nat} (ha : a ≤ 1) (hb : b ≤ 1) (h70 : a7 0 = nI a) (h71 : a7 1 = nI b) (h80 : a8 0 = nI 1) (h81 : a8 1 = nI 1)
    (H : ∀ a6' : Nat → Int32, a6' 0 = nI a → a6' 1 = nI b → a6' 2 = nI ((2 * b + 2147483647 - a) % 2147483647) → post (fv, fm, fs, fg, fr, nI 2, a1, a2, a3, a4, a5, a6', a7, a8)) : wpX_sum post (fv, fm, fs, fg, fr, nI 2, a1, a2, a3, a4, a5, a6, a7, a8) := by
  unfold wpX_sum
  refine nm_e (nm_e (nm_e (nm_r (e' := nI 1) (by decide) ⟨0 + 1 + 1, ?_⟩)))
  refine br_f (by decide) ⟨pk_in 0 32 (by omega), pk_in 0 32 (by omega), ?_⟩
  refine qc_addTo (t := 0) (a := a) (b := 1) (h := 0) rfl (by omega) (by rw [qc_c0]; exact h70) (by rw [qc_c0]; exact h80) (by rw [pk_un (by decide), pk_un (by decide), pk_us]; rfl) (by omega) (by omega) (by omega) ?_
  refine ⟨pk_in 1 32 (by omega), pk_in 1 32 (by omega), ?_⟩
  refine qc_addTo (t := 1) (a := b) (b := 1) (h := 0) rfl (by omega) (by rw [qc_c1]; exact h71) (by rw [qc_c1]; exact h81) (by rw [pk_un (by decide), pk_un (by decide), pk_us]; rfl) (by omega) (by omega) (by omega) ?_
  refine ⟨pk_in 0 32 (by omega), pk_in 1 32 (by omega), ?_⟩
  refine qc_beyondOne (a := a) (b := b) (by rw [qc_c0]; exact h70) (by rw [qc_c1]; exact h71) (by omega) (by omega) ?_
  refine ⟨pk_in 0 32 (by omega), pk_in 1 32 (by omega), ?_⟩
  refine qc_beyondOne (a := 1) (b := 1) (by rw [qc_c0]; exact h80) (by rw [qc_c1]; exact h81) (by omega) (by omega) ?_
  refine qc_addTo (t := 2) (h := 0) rfl (by omega) rfl rfl (by rw [pk_un (by decide), pk_un (by decide), pk_us]; rfl) (Nat.mod_lt _ (by decide)) (Nat.mod_lt _ (by decide)) (by omega) ?_
  refine nm_r (e' := nI 1) (by decide) ?_
  refine br_t (by decide) ?_
  refine H _ ?_ ?_ ?_
  · rw [pk_un (by decide), pk_un (by decide), pk_us, qc_h0 ha]
  · rw [pk_un (by decide), pk_us, qc_h0 hb]
  · rw [pk_us, qc_h2 ha hb]
/-- what the prover adds to the honest message at t: m the manner, G the gap, e its half -/
def qc_sh (m G e t : Nat) : Nat := if m = 1 then e else if m = 2 then (if t = 0 then G else if t = 1 then 0 else (0 + 2147483647 - G) % 2147483647) else 0
theorem qc_step {post : St2 → Prop} {fv fm fs fg fr ft : Int32} {a1 a2 a3 a4 a5 a6 a7 a8 : Nat → Int32} {n t m G e h : Nat} (ht : t < 3) (hm : fm = nI m) (hm2 : m ≤ 2) (hG : G < 2147483647) (he : e < 2147483647) (h6 : a6 t = nI h) (hh : h < 2147483647)
    (H : wX_send_39 post (nI G) (nI e) fv fm fs fg fr ft n (nI (t + 1)) a1 a2 a3 a4 (upd a5 t (nI ((h + qc_sh m G e t) % 2147483647))) a6 a7 a8) : wX_send_39 post (nI G) (nI e) fv fm fs fg fr ft (n + 1) (nI t) a1 a2 a3 a4 a5 a6 a7 a8 := by
  subst hm
  have K : ∀ s, s < 2147483647 → qc_sh m G e t = s → wX_send_78 post (wX_send_39 post (nI G) (nI e) fv (nI m) fs fg fr ft n) (nI G) (nI e) (nI t) (nI s) fv (nI m) fs fg fr ft a1 a2 a3 a4 a5 a6 a7 a8 := by
    intro s hs es
    rw [es] at H
    unfold wX_send_78
    rw [nI_clamp (show t < 2 ^ 31 by omega), h6]
    exact ⟨pk_in t 3 ht, qc_plus hh hs ⟨pk_in t 3 ht, nm_e (nm_r (nI_1 t) H)⟩⟩
  refine pk_le 3 t (fun z => absurd z (by omega)) (fun _ => ?_)
  refine pk_eq m 1 (fun z => ?_) (fun z => pk_eq m 2 (fun z2 => ?_) (fun z2 => ?_))
  · exact K e he (by rw [qc_sh, if_pos z])
  · unfold wpX_steep
    refine pk_eq t 0 (fun z3 => K G hG (by rw [qc_sh, if_neg z, if_pos z2, if_pos z3])) (fun z3 => pk_eq t 1 (fun z4 => K 0 (by decide) (by rw [qc_sh, if_neg z, if_pos z2, if_neg z3, if_pos z4])) (fun z4 => ?_))
    exact qc_minus (a := 0) (by decide) hG (K _ (Nat.mod_lt _ (by decide)) (by rw [qc_sh, if_neg z, if_pos z2, if_neg z3, if_neg z4]))
  · exact K 0 (by decide) (by rw [qc_sh, if_neg z, if_neg z2])
theorem qc_send {post : St2 → Prop} {fv fs fg : Int32} {a1 a2 a3 a4 a5 a6 a7 a8 : Nat → Int32} {a b c m G e : Nat} (ha : a ≤ 1) (hb : b ≤ 1) (hc : c < 2147483647) (hm : m ≤ 2) (hG : G = (c + 2147483647 - (a + b) % 2147483647) % 2147483647) (he : e = G * 1073741824 % 2147483647)
    (h70 : a7 0 = nI a) (h71 : a7 1 = nI b) (h80 : a8 0 = nI 1) (h81 : a8 1 = nI 1)
    (H : ∀ (a5' a6' : Nat → Int32), a5' 0 = nI ((a + qc_sh m G e 0) % 2147483647) → a5' 1 = nI ((b + qc_sh m G e 1) % 2147483647) → a5' 2 = nI (((2 * b + 2147483647 - a) % 2147483647 + qc_sh m G e 2) % 2147483647) →
      post (fv, nI m, (if ((a + qc_sh m G e 0) % 2147483647 + (b + qc_sh m G e 1) % 2147483647) % 2147483647 = c then 1 else 3), fg, nI c, nI 2, a1, a2, a3, a4, a5', a6', a7, a8)) : wpX_send post (fv, nI m, fs, fg, nI c, nI 2, a1, a2, a3, a4, a5, a6, a7, a8) := by
  have hG2 : G < 2147483647 := by rw [hG]; exact Nat.mod_lt _ (by decide)
  have he2 : e < 2147483647 := by rw [he]; exact Nat.mod_lt _ (by decide)
  unfold wpX_send
  refine qc_sum ha hb h70 h71 h80 h81 (fun a6' e0 e1 e2 => ?_)
  dsimp only
  rw [e0, e1]
  refine qc_plus (by omega) (by omega) (qc_minus hc (Nat.mod_lt _ (by decide)) ?_)
  rw [← hG]
  refine qc_times (b := 1073741824) hG2 (by decide) ?_
  rw [← he]
  refine ⟨0 + 1 + 1 + 1 + 1, ?_⟩
  refine qc_step (t := 0) (m := m) (by decide) rfl hm hG2 he2 e0 (by omega) ?_
  refine qc_step (t := 1) (m := m) (by decide) rfl hm hG2 he2 e1 (by omega) ?_
  refine qc_step (t := 2) (m := m) (by decide) rfl hm hG2 he2 e2 (Nat.mod_lt _ (by decide)) ?_
  refine pk_le 3 3 (fun _ => ?_) (fun z => absurd z (by omega))
  have E0 : ∀ x y z : Int32, upd (upd (upd a5 0 x) 1 y) 2 z 0 = x := fun x y z => by rw [pk_un (by decide), pk_un (by decide), pk_us]
  have E1 : ∀ x y z : Int32, upd (upd (upd a5 0 x) 1 y) 2 z 1 = y := fun x y z => by rw [pk_un (by decide), pk_us]
  have E2 : ∀ x y z : Int32, upd (upd (upd a5 0 x) 1 y) 2 z 2 = z := fun x y z => pk_us
  rw [E0, E1]
  have H' := H _ a6' (E0 _ _ _) (E1 _ _ _) (E2 _ _ _)
  refine qc_plus (Nat.mod_lt _ (by decide)) (Nat.mod_lt _ (by decide)) (pk_eq (((a + qc_sh m G e 0) % 2147483647 + (b + qc_sh m G e 1) % 2147483647) % 2147483647) c (fun z => ?_) (fun z => ?_) rfl rfl (Nat.lt_trans (Nat.mod_lt _ (by decide)) (by decide)) (by omega))
  · rw [if_pos z] at H'
    exact H'
  · rw [if_neg z] at H'
    exact H'
end
section
theorem qc_bits : ∀ p, p < 2 → ∀ q, q < 2 → ∀ x, x < 2 → (((nI p &&& nI x) ||| (nI q &&& (nI x ^^^ (-1)))) = 0 ↔ (if x = 0 then q else p) = 0) := by decide +kernel
theorem qc_mask : ∀ p, p < 2 → (nI p &&& ((((1 : Int32) <<< ((1 : Int32) &&& 31)) - 1) ^^^ (-1))) = 0 := by decide +kernel
theorem qc_byte : ∀ p, p < 2 → (nI p).toInt8.toInt32 = nI p := by decide +kernel
theorem qc_val0 {post : Int32 → Prop} {fv fm fs fg fr ft : Int32} {a1 a2 a3 a4 a5 a6 a7 a8 : Nat → Int32} {p q x : Nat} (h1 : a1 0 = nI p) (h2 : a2 0 = nI q) (h3 : a3 0 = nI 1) (hp : p < 2) (hq : q < 2) (hx : x < 2) (H : post (nI (if x = 0 then q else p))) :
    wpX_value post (fv, fm, fs, fg, fr, ft, a1, a2, a3, a4, a5, a6, a7, a8) 0 (nI x) := by
  unfold wpX_value
  refine ⟨0 + 1 + 1, And.intro (pk_in 0 2 (by omega)) ?_⟩
  refine br_f (by rw [sb_cl0, h3]; decide) (nm_r (e' := 0) (by decide) ⟨pk_in 0 12 (by omega), pk_in 0 12 (by omega), ?_⟩)
  rw [sb_cl0, h1, h2]
  refine ek_if (qc_bits p hp q hq x hx) (fun z => ?_) (fun z => nm_r (e' := nI 1) (by decide) (And.intro (pk_in 0 2 (by omega)) (br_t (by rw [sb_cl0, h3]; decide) ?_)))
  · rw [z] at H
    exact H
  · rw [show (if x = 0 then q else p) = 1 by split at z <;> split <;> omega] at H
    exact H
theorem qc_val1 {post : Int32 → Prop} {fv fm fs fg fr ft x : Int32} {a1 a2 a3 a4 a5 a6 a7 a8 : Nat → Int32} (h3 : a3 1 = nI 0) (H : post (nI 1)) : wpX_value post (fv, fm, fs, fg, fr, ft, a1, a2, a3, a4, a5, a6, a7, a8) 1 x := by
  unfold wpX_value
  exact ⟨0 + 1, And.intro (pk_in 1 2 (by omega)) (br_t (by rw [qc_cl1', h3]; decide) H)⟩
theorem qc_elem {post : Int32 → Prop} {u : St0} {c : Nat} (hc : c < 2147483647) (H : post 1) : wpX_element post u (nI c) := by
  unfold wpX_element
  exact br_f (nI_pos (by omega)) (br_f (nI_ge (b := 2147483647) hc (by decide)) H)
theorem qc_elemB {post : Int32 → Prop} {u : St0} {x : Int32} (hx : x < 0 ∨ 2147483647 ≤ x) (H : post 0) : wpX_element post u x := by
  unfold wpX_element
  exact br_c (fun _ => H) (fun g => br_t (hx.resolve_left g) H)
theorem qc_startB {post : Int32 → St2 → Prop} {u : St2} {x : Int32} (hx : x < 0 ∨ 2147483647 ≤ x) (H : post (-1) u) : wpX_start post u x := by
  obtain ⟨fv, fm, fs, fg, fr, ft, a1, a2, a3, a4, a5, a6, a7, a8⟩ := u
  unfold wpX_start
  exact qc_elemB hx (br_t rfl H)
theorem qc_start {post : Int32 → St2 → Prop} {fs fg fr ft : Int32} {a1 a2 a3 a4 a5 a6 a7 a8 : Nat → Int32} {p q c m G e : Nat} (h1 : a1 0 = nI p) (h2 : a2 0 = nI q) (h3 : a3 0 = nI 1) (h31 : a3 1 = nI 0) (hp : p < 2) (hq : q < 2) (hc : c < 2147483647) (hm : m ≤ 2) (hG : G = (c + 2147483647 - (q + p) % 2147483647) % 2147483647) (he : e = G * 1073741824 % 2147483647)
    (H : ∀ (st : Int32) (a5' a6' a7' a8' : Nat → Int32), st = (if ((q + qc_sh m G e 0) % 2147483647 + (p + qc_sh m G e 1) % 2147483647) % 2147483647 = c then 1 else 3) → a5' 0 = nI ((q + qc_sh m G e 0) % 2147483647) → a5' 1 = nI ((p + qc_sh m G e 1) % 2147483647) → a5' 2 = nI (((2 * p + 2147483647 - q) % 2147483647 + qc_sh m G e 2) % 2147483647) →
      post st (1, nI m, st, 0, nI c, nI 2, a1, a2, a3, a4, a5', a6', a7', a8')) : wpX_start post (1, nI m, fs, fg, fr, ft, a1, a2, a3, a4, a5, a6, a7, a8) (nI c) := by
  unfold wpX_start
  refine qc_elem hc (br_f (by decide) (nm_r (e' := nI 2) (by decide) ⟨0 + 1 + 1 + 1, ?_⟩))
  refine br_f (by decide) (qc_val0 (x := 0) h1 h2 h3 hp hq (by decide) ⟨pk_in 0 32 (by omega), nm_e (qc_val1 h31 ⟨pk_in 0 32 (by omega), nm_e (nm_r (e' := nI 1) (by decide) ?_)⟩)⟩)
  refine br_f (by decide) (qc_val0 (x := 1) h1 h2 h3 hp hq (by decide) ⟨pk_in 1 32 (by omega), nm_e (qc_val1 h31 ⟨pk_in 1 32 (by omega), nm_e (nm_r (e' := nI 2) (by decide) ?_)⟩)⟩)
  refine br_t (by decide) ?_
  refine qc_send (a := q) (b := p) (by omega) (by omega) hc hm hG he ?_ ?_ ?_ ?_ (fun a5' a6' e0 e1 e2 => H _ a5' a6' _ _ rfl e0 e1 e2)
  · rw [sb_cl0, qc_cl1, pk_un (by decide), pk_us]
    rfl
  · rw [qc_cl1, pk_us]
    rfl
  · rw [sb_cl0, qc_cl1, pk_un (by decide), pk_us]
  · rw [qc_cl1, pk_us]
theorem qc_clause {post : Int32 → St2 → Prop} {a4 a5 a6 a7 a8 : Nat → Int32} {p q : Nat} (hp : p < 2) (hq : q < 2)
    (H : ∀ a1 a2 a3 : Nat → Int32, a1 0 = nI p → a2 0 = nI q → a3 0 = nI 1 → a3 1 = nI 0 → post 0 (1, nI 0, 0, 0, 0, 0, a1, a2, a3, a4, a5, a6, a7, a8)) :
    wpX_clause post (1, 0, 0, 0, 0, 0, (fun _ => 0), (fun _ => 0), (fun _ => 0), a4, a5, a6, a7, a8) 0 (nI p) (nI q) := by
  unfold wpX_clause
  refine br_t rfl (br_f (by decide) (br_t (qc_mask p hp) (br_t rfl (br_t (qc_mask q hq) (br_t rfl ?_)))))
  refine ⟨pk_in 0 2 (by omega), nm_r (e' := 0) rfl (br_t (by decide) ⟨pk_in 0 12 (by omega), nm_e ⟨pk_in 0 12 (by omega), nm_e ⟨pk_in 0 2 (by omega), pk_in 0 2 (by omega), nm_e ?_⟩⟩⟩)⟩
  have k : ((0 : Int32) * 6 + 0).toNatClampNeg = 0 := by decide
  refine H _ _ _ ?_ ?_ ?_ ?_
  · rw [k, pk_us, qc_byte p hp]
  · rw [k, pk_us, qc_byte q hq]
  · rw [sb_cl0, pk_us]
    decide
  · rw [sb_cl0, pk_un (by decide)]
    rfl
theorem qc_msg {post : Int32 → Prop} {fv fm fs fg fr ft x : Int32} {a1 a2 a3 a4 a5 a6 a7 a8 : Nat → Int32} {t : Nat} (hs : ¬ fs = 0) (hx : x = nI t) (ht : t < 3) (H : post (a5 t)) : wpX_message post (fv, fm, fs, fg, fr, ft, a1, a2, a3, a4, a5, a6, a7, a8) x := by
  subst hx
  unfold wpX_message
  refine br_f hs (br_f (nI_pos (by omega)) (br_t (nI_le (b := 2) (by omega) (by decide)) ⟨pk_in t 3 ht, ?_⟩))
  rw [nI_clamp (by omega)]
  exact H
theorem qc_msgB {post : Int32 → Prop} {fv fm fg fr ft x : Int32} {a1 a2 a3 a4 a5 a6 a7 a8 : Nat → Int32} (H : post (-1)) : wpX_message post (fv, fm, 0, fg, fr, ft, a1, a2, a3, a4, a5, a6, a7, a8) x := by
  unfold wpX_message
  exact br_t rfl H
theorem qc_run {post : Int32 → Prop} {fv fm fs fg fr ft : Int32} {a1 a2 a3 a4 a5 a6 a7 a8 : Nat → Int32} (hs : ¬ fs = 0) (H : post fr) : wpX_running post (fv, fm, fs, fg, fr, ft, a1, a2, a3, a4, a5, a6, a7, a8) := by
  unfold wpX_running
  exact br_f hs H
theorem qc_runB {post : Int32 → Prop} {fv fm fg fr ft : Int32} {a1 a2 a3 a4 a5 a6 a7 a8 : Nat → Int32} (H : post (-1)) : wpX_running post (fv, fm, 0, fg, fr, ft, a1, a2, a3, a4, a5, a6, a7, a8) := by
  unfold wpX_running
  exact br_t rfl H
theorem qc_rnd {post : Int32 → Prop} {fv fm fs fg fr ft : Int32} {a1 a2 a3 a4 a5 a6 a7 a8 : Nat → Int32} (H : post fg) : wpX_round post (fv, fm, fs, fg, fr, ft, a1, a2, a3, a4, a5, a6, a7, a8) := by
  unfold wpX_round
  exact H
end
section
/-! plain laws over naturals: what the checks of the law rest on -/
theorem qc_gap {a b c : Nat} (ha : a < 2) (hb : b < 2) (hc : c < 2147483647) : (c + 2147483647 - a - b) % 2147483647 = (c + 2147483647 - (a + b) % 2147483647) % 2147483647 := by omega
theorem qc_half {G : Nat} : (2 * (G * 1073741824 % 2147483647)) % 2147483647 = G % 2147483647 := by omega
theorem qc_sum2 {a b c G : Nat} (ha : a < 2) (hb : b < 2) (hc : c < 2147483647) (hG : G = (c + 2147483647 - (a + b) % 2147483647) % 2147483647) : (a + b + G) % 2147483647 = c := by omega
theorem qc_as0 {a b c G : Nat} (ha : a < 2) (hb : b < 2) (hc : c < 2147483647) (hG : G = (c + 2147483647 - (a + b) % 2147483647) % 2147483647) : ((a + 0) % 2147483647 + (b + 0) % 2147483647) % 2147483647 = c ↔ G = 0 := by omega
theorem qc_as1 {a b c G e : Nat} (ha : a < 2) (hb : b < 2) (hc : c < 2147483647) (hG : G = (c + 2147483647 - (a + b) % 2147483647) % 2147483647) (he : e = G * 1073741824 % 2147483647) : ((a + e) % 2147483647 + (b + e) % 2147483647) % 2147483647 = c := by
  have h1 : (2 * e) % 2147483647 = G % 2147483647 := by rw [he]; exact qc_half
  have h2 := qc_sum2 ha hb hc hG
  rw [← Nat.add_mod, show a + e + (b + e) = a + b + 2 * e by omega, Nat.add_mod, h1, ← Nat.add_mod]
  exact h2
theorem qc_as2 {a b c G : Nat} (ha : a < 2) (hb : b < 2) (hc : c < 2147483647) (hG : G = (c + 2147483647 - (a + b) % 2147483647) % 2147483647) : ((a + G) % 2147483647 + (b + 0) % 2147483647) % 2147483647 = c := by
  have h2 := qc_sum2 ha hb hc hG
  rw [← Nat.add_mod, show a + G + (b + 0) = a + b + G by omega]
  exact h2
theorem qc_m2 {a b E s : Nat} (ha : a < 2) (hE : E % 2147483647 = s % 2147483647) : (2 * b + 2147483647 - a + E) % 2147483647 = ((2 * b + 2147483647 - a) % 2147483647 + s) % 2147483647 := by
  rw [Nat.add_mod, hE, ← Nat.add_mod, Nat.mod_add_mod]
/-! the law's checks -/
theorem qc_327 {post : Int32 → St0 → Prop} {mc ms kc ks : Nat} {x7 x8 x9 z : Int32} {a b c E0 E1 E2 : Nat} (ha : a < 2) (hb : b < 2) (h0 : E0 < 2147483648) (h1 : E1 < 2147483648) (h2 : E2 < 2147483648)
    (e7 : x7 = nI ((a + E0) % 2147483647)) (e8 : x8 = nI ((b + E1) % 2147483647)) (e9 : x9 = nI ((2 * b + 2147483647 - a + E2) % 2147483647)) (H : post 1 ()) :
    wL_lawOf_327 post mc ms (nI c) x7 x8 x9 (nI c) 0 (lN 2147483647) (lN a) (lN b) (lN E0) (lN E1) (lN E2) z z kc ks := by
  subst e7 e8 e9
  unfold wL_lawOf_327
  have hz : ¬ lN 2147483647 = 0 := by decide
  have hl : ∀ n, (nI (n % 2147483647)).toInt64 = lN (n % 2147483647) := fun n => nI_l (Nat.lt_trans (Nat.mod_lt _ (by decide)) (by decide))
  have e : 2 * lN b - lN a + lN 2147483647 + lN E2 = lN (2 * b + 2147483647 - a + E2) := by
    rw [← lN_add, ← lN_sub (show a ≤ 2 * b + 2147483647 by omega), ← lN_add, ← lN_mul]
    show 2 * lN b - lN a + lN 2147483647 + lN E2 = 2 * lN b + lN 2147483647 - lN a + lN E2
    grind
  rw [e, hl, hl, hl, lN_add, lN_add]
  exact br_t rfl ⟨hz, br_t (pk_lRem (by omega) (by decide) (by decide)).symm ⟨hz, br_t (pk_lRem (by omega) (by decide) (by decide)).symm ⟨hz, br_t (pk_lRem (by omega) (by decide) (by decide)).symm (br_t rfl (br_t rfl H))⟩⟩⟩
theorem qc_good {post : Int32 → St0 → Prop} {mc ms kc ks : Nat} {x0 x1 x7 x8 x9 st z : Int32} {p q c m G e : Nat} (hx0 : x0 &&& 1 = nI p) (hx1 : x1 &&& 1 = nI q) (hp : p < 2) (hq : q < 2) (hc : c < 2147483647) (hm : m ≤ 2)
    (hG : G = (c + 2147483647 - (q + p) % 2147483647) % 2147483647) (he : e = G * 1073741824 % 2147483647)
    (hst : st = (if ((q + qc_sh m G e 0) % 2147483647 + (p + qc_sh m G e 1) % 2147483647) % 2147483647 = c then 1 else 3))
    (e7 : x7 = nI ((q + qc_sh m G e 0) % 2147483647)) (e8 : x8 = nI ((p + qc_sh m G e 1) % 2147483647)) (e9 : x9 = nI (((2 * p + 2147483647 - q) % 2147483647 + qc_sh m G e 2) % 2147483647)) (H : post 1 ()) :
    wL_lawOf_134 post mc ms x0 x1 (nI c) st x7 x8 x9 (nI c) 0 (nI m) 1 z z kc ks := by
  have hG2 : G < 2147483647 := by rw [hG]; exact Nat.mod_lt _ (by decide)
  have he2 : e < 2147483647 := by rw [he]; exact Nat.mod_lt _ (by decide)
  unfold wL_lawOf_134
  refine br_t rfl (br_f (by decide) ?_)
  rw [hx0, hx1]
  refine nm_r (nI_l (by omega)) (nm_r (nI_l (by omega)) ⟨by decide, ?_⟩)
  have eG : (nI c).toInt64 - lN q - lN p + 2147483647 = lN (c + 2147483647 - q - p) := by
    rw [nI_l (by omega), ← lN_sub (show p ≤ c + 2147483647 - q by omega), ← lN_sub (show q ≤ c + 2147483647 by omega), ← lN_add]
    show lN c - lN q - lN p + lN 2147483647 = lN c + lN 2147483647 - lN q - lN p
    grind
  have eG2 : lN (c + 2147483647 - q - p) - lN (c + 2147483647 - q - p) / 2147483647 * 2147483647 = lN G := by
    rw [hG, ← qc_gap hq hp hc]
    exact pk_lRem (b := 2147483647) (by omega) (by decide) (by decide)
  refine nm_r (e' := lN G) (by rw [eG]; exact eG2) ⟨by decide, ?_⟩
  have eE : lN G * 1073741824 - lN G * 1073741824 / 2147483647 * 2147483647 = lN e := by
    have t : lN G * 1073741824 = lN (G * 1073741824) := lN_mul _ _
    rw [t, he]
    exact pk_lRem (b := 2147483647) (by omega) (by decide) (by decide)
  refine nm_r (e' := lN e) eE ?_
  rcases (show m = 0 ∨ m = 1 ∨ m = 2 by omega) with rfl | rfl | rfl
  · have K : ∀ x6, wL_lawOf_327 post mc ms (nI c) x7 x8 x9 (nI c) 0 (lN 2147483647) (lN q) (lN p) (lN 0) (lN 0) (lN 0) x6 x6 kc ks := fun x6 => qc_327 hq hp (by decide) (by decide) (by decide) e7 e8 (by rw [e9, qc_m2 hq rfl]; rfl) H
    have hs : st = if G = 0 then 1 else 3 := by
      have hi := qc_as0 hq hp hc hG
      rw [hst]
      by_cases g : G = 0
      · rw [if_pos g]
        exact if_pos (hi.mpr g)
      · rw [if_neg g]
        exact if_neg (fun w => g (hi.mp w))
    refine br_f (by decide) (br_f (by decide) ?_)
    refine br_f (by decide) ?_
    refine br_f (by decide) (br_f (by decide) ?_)
    refine br_f (by decide) ?_
    by_cases g : G = 0
    · rw [if_pos g] at hs
      subst hs
      refine br_t (by rw [g]; rfl) ?_
      exact br_f (by decide) (K 1)
    · rw [if_neg g] at hs
      subst hs
      have g' : ¬ lN G = lN 0 := fun w => g ((pk_lEQ (by omega) (by omega)).mp w)
      refine br_f g' ?_
      exact br_t rfl (K 3)
  · have hs : st = 1 := by
      rw [hst]
      exact if_pos (qc_as1 hq hp hc hG he)
    have K : wL_lawOf_327 post mc ms (nI c) x7 x8 x9 (nI c) 0 (lN 2147483647) (lN q) (lN p) (lN e) (lN e) (lN e) st st kc ks := qc_327 hq hp (by omega) (by omega) (by omega) e7 e8 (by rw [e9, qc_m2 hq rfl]; rfl) H
    subst hs
    refine br_t rfl ?_
    refine br_t rfl ?_
    refine br_t rfl ?_
    refine br_t (by decide) ?_
    exact br_f (by decide) K
  · have hs : st = 1 := by
      rw [hst]
      exact if_pos (qc_as2 hq hp hc hG)
    have K : wL_lawOf_327 post mc ms (nI c) x7 x8 x9 (nI c) 0 (lN 2147483647) (lN q) (lN p) (lN G) (lN 0) (lN (2147483647 - G)) st st kc ks := qc_327 hq hp (by omega) (by omega) (by omega) e7 e8 (by rw [e9, qc_m2 (s := (0 + 2147483647 - G) % 2147483647) hq (by omega)]; rfl) H
    rw [← lN_sub (show G ≤ 2147483647 by omega)] at K
    subst hs
    refine br_f (by decide) (br_t rfl ?_)
    refine br_f (by decide) ?_
    refine br_f (by decide) (br_t rfl ?_)
    refine br_t (by decide) ?_
    exact br_f (by decide) K
theorem qc_bad {post : Int32 → St0 → Prop} {mc ms kc ks : Nat} {x0 x1 x2 x13 z : Int32} (H : post 1 ()) : wL_lawOf_134 post mc ms x0 x1 x2 (-1) (-1) (-1) (-1) (-1) 0 x13 0 z z kc ks := by
  unfold wL_lawOf_134
  exact br_t rfl (br_t rfl (br_t rfl (br_t rfl (br_t rfl (br_t rfl (br_t rfl (br_t rfl H)))))))
theorem qc_103 {post : Int32 → St0 → Prop} {mc ms kc ks : Nat} {x0 x1 x2 x5 x6 x7 x8 x9 x10 x11 x12 x13 g : Int32} (hg : ((x2 < 0 ∨ 2147483647 ≤ x2) ∧ g = 0) ∨ (¬ x2 < 0 ∧ ¬ 2147483647 ≤ x2 ∧ g = 1)) (hx : (x12 = 0 ∧ x5 = -1) ∨ (¬ x12 = 0 ∧ x5 = 0))
    (H : ∀ z, wL_lawOf_134 post mc ms x0 x1 x2 x6 x7 x8 x9 x10 x11 x13 g z z kc ks) : wL_lawOf_103 post mc ms x0 x1 x2 x5 x6 x7 x8 x9 x10 x11 x12 x13 kc ks := by
  have K : wL_lawOf_120 post mc ms x0 x1 x2 x5 x6 x7 x8 x9 x10 x11 x12 x13 g kc ks := by
    unfold wL_lawOf_120
    rcases hx with ⟨h, rfl⟩ | ⟨h, rfl⟩
    · exact br_t h (H _)
    · exact br_f h (H _)
  unfold wL_lawOf_103
  rcases hg with ⟨h, rfl⟩ | ⟨h, h2, rfl⟩
  · exact br_c (fun _ => K) (fun w => br_t (h.resolve_left w) K)
  · exact br_f h (br_f h2 K)
end
section
theorem qc_manner {post : Int32 → St2 → Prop} {fv fm fs fg fr ft x : Int32} {a1 a2 a3 a4 a5 a6 a7 a8 : Nat → Int32} (hb : (x < 0 ∨ 2 < x) → post (-1) (fv, fm, fs, fg, fr, ft, a1, a2, a3, a4, a5, a6, a7, a8)) (hg : ∀ m : Nat, m ≤ 2 → x = nI m → post 0 (fv, nI m, fs, fg, fr, ft, a1, a2, a3, a4, a5, a6, a7, a8)) :
    wpX_manner post (fv, fm, fs, fg, fr, ft, a1, a2, a3, a4, a5, a6, a7, a8) x := by
  unfold wpX_manner
  refine br_c (fun g => hb (Or.inl g)) (fun g => br_c (fun g2 => ?_) (fun g2 => hb (Or.inr (Int32.not_le.mp g2))))
  obtain ⟨m, hm, e⟩ := nI_of2 (M := 2) (n := 2) (by decide) g g2
  have h := hg m hm e
  rw [← e] at h
  exact h
theorem qc_unk {A B : Prop} {x : Int32} (h : x < 0 ∨ 2 < x) (a : A) : (x < 0 → A) ∧ (¬ x < 0 → ((2 < x → A) ∧ (¬ 2 < x → B))) :=
  br_c (fun _ => a) (fun w => br_t (h.resolve_left w) a)
theorem qc_kno {A B : Prop} {x : Int32} {m : Nat} (hm : m ≤ 2) (e : x = nI m) (b : B) : (x < 0 → A) ∧ (¬ x < 0 → ((2 < x → A) ∧ (¬ 2 < x → B))) := by
  subst e
  have h : ¬ nI 2 < nI m := nI_nlt hm (by decide)
  exact br_f (nI_pos (by omega)) (br_f h b)
theorem qc_lawOf {post : Int32 → St0 → Prop} (p0 p1 p2 p3 : Int32) (H : post 1 ()) : wpL_lawOf post 9 115 () p0 p1 p2 p3 := by
  obtain ⟨p, hp, ep⟩ := pk_andE p0 (m := 1) 1 (by decide)
  obtain ⟨q, hq, eq⟩ := pk_andE p1 (m := 1) 1 (by decide)
  have hp : p < 2 := hp
  have hq : q < 2 := hq
  have h3c : ∀ c : Prop, ∀ (_ : Decidable c), ¬ (if c then (1 : Int32) else 3) = 0 := fun c _ => by split <;> decide
  have hcase : (p2 < 0 ∨ 2147483647 ≤ p2) ∨ (∃ c : Nat, c < 2147483647 ∧ p2 = nI c) := by
    rcases pk_ix p2 (n := 2147483647) (by decide) with h | h | h
    · exact Or.inl (Or.inl h)
    · exact Or.inl (Or.inr h)
    · exact Or.inr h
  unfold wpL_lawOf
  refine ⟨by decide, by decide, 8, 101, by decide, by decide, ?_⟩
  unfold wpX_init
  refine ⟨by decide, by decide, by decide, by decide, by decide, by decide, by decide, by decide, by decide, by decide, by decide, by decide, by decide, by decide, by decide, by decide, br_t (by decide) (br_t (by decide) ?_)⟩
  rw [ep, eq]
  refine qc_clause hp hq (fun a1 a2 a3 h1 h2 h3 h31 => ?_)
  refine qc_manner (fun hu => ?_) (fun m hm em => ?_)
  · rcases hcase with hb | ⟨c, hc, ec⟩
    · refine qc_startB hb ?_
      refine qc_msgB (qc_msgB (qc_msgB (qc_runB (qc_rnd (qc_unk hu ?_)))))
      refine br_t rfl ?_
      exact qc_103 (g := 0) (Or.inl ⟨hb, rfl⟩) (Or.inl ⟨rfl, rfl⟩) (fun z => qc_bad H)
    · subst ec
      refine qc_start (m := 0) h1 h2 h3 h31 hp hq hc (by decide) rfl rfl (fun st a5' a6' a7' a8' es e0 e1 e2 => ?_)
      have hs : ¬ st = 0 := by rw [es]; exact h3c _ _
      refine qc_msg (t := 0) hs rfl (by decide) (qc_msg (t := 1) hs rfl (by decide) (qc_msg (t := 2) hs rfl (by decide) (qc_run hs (qc_rnd (qc_unk hu ?_)))))
      refine br_t rfl ?_
      exact qc_103 (g := 1) (Or.inr ⟨nI_pos (by omega), nI_ge (b := 2147483647) hc (by decide), rfl⟩) (Or.inl ⟨rfl, rfl⟩) (fun z => qc_good (m := 0) ep eq hp hq hc (by decide) rfl rfl es e0 e1 e2 H)
  · rcases hcase with hb | ⟨c, hc, ec⟩
    · refine qc_startB hb ?_
      refine qc_msgB (qc_msgB (qc_msgB (qc_runB (qc_rnd (qc_kno hm em ?_)))))
      refine br_f (by decide) ?_
      exact qc_103 (g := 0) (Or.inl ⟨hb, rfl⟩) (Or.inr ⟨by decide, rfl⟩) (fun z => qc_bad H)
    · subst ec
      refine qc_start (m := m) h1 h2 h3 h31 hp hq hc hm rfl rfl (fun st a5' a6' a7' a8' es e0 e1 e2 => ?_)
      have hs : ¬ st = 0 := by rw [es]; exact h3c _ _
      refine qc_msg (t := 0) hs rfl (by decide) (qc_msg (t := 1) hs rfl (by decide) (qc_msg (t := 2) hs rfl (by decide) (qc_run hs (qc_rnd (qc_kno hm em ?_)))))
      refine br_f (by decide) ?_
      rw [em]
      exact qc_103 (g := 1) (Or.inr ⟨nI_pos (by omega), nI_ge (b := 2147483647) hc (by decide), rfl⟩) (Or.inr ⟨by decide, rfl⟩) (fun z => qc_good (m := m) ep eq hp hq hc hm rfl rfl es e0 e1 e2 H)
theorem qc_cell {post : Int32 → Prop} {L : Nat} {xs : Nat → Int32} {u : St0} {x : Int32} (k : Nat) (hx : x = nI k) (hk : k < 4) (hL : L ≤ 4) (H : ∀ r, post r) : wpL_cellAt post L xs u x := by
  subst hx
  unfold wpL_cellAt
  exact pk_le L k (fun _ => H _) (fun z => ⟨pk_in k L z, H _⟩)
theorem i_vc (xs : Nat → Int32) (L : Nat) (hL : L ≤ 4) : wpL_law (fun r => r = 1) L xs := by
  unfold wpL_law
  exact qc_cell 0 rfl (by decide) hL (fun r1 => qc_cell 1 rfl (by decide) hL (fun r2 => qc_cell 2 rfl (by decide) hL (fun r3 => qc_cell 3 rfl (by decide) hL (fun r4 => ⟨9, 115, by decide, by decide, qc_lawOf r1 r2 r3 r4 rfl⟩))))
end
