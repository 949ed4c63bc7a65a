section
/-! rows of the kit's BITS and PURE-ROWS (starting texts), the few that this claim takes -/
theorem pk_us {f : Nat → Int32} {k : Nat} {x : Int32} : upd f k x k = x := if_pos rfl
theorem pk_un {f : Nat → Int32} {k j : Nat} {x : Int32} (h : j ≠ k) : upd f k x j = f j := if_neg h
theorem pk_lT {n : Nat} (h : n < 2 ^ 63) : (lN n).toInt = (n : Int) := lg_ofNat_toInt h
theorem pk_lEQ {a b : Nat} (ha : a < 2 ^ 63) (hb : b < 2 ^ 63) : lN a = lN b ↔ a = b := by
  rw [← Int64.toInt_inj, pk_lT ha, pk_lT hb]; omega
theorem wb_tb (n : Nat) : (lN n).toBitVec = BitVec.ofNat 64 n := rfl
theorem wb_inj {a b : Int64} (h : a.toBitVec = b.toBitVec) : a = b := Int64.toBitVec_inj.mp h
theorem wb_tn {n : Nat} (h : n < 2 ^ 64) : (lN n).toBitVec.toNat = n := by rw [wb_tb, BitVec.toNat_ofNat, Nat.mod_eq_of_lt h]
theorem wb_of (x : Int64) : ∃ n, n < 2 ^ 64 ∧ x = lN n := ⟨x.toBitVec.toNat, x.toBitVec.isLt, wb_inj (by rw [wb_tb]; simp)⟩
theorem wb_cu : ∀ k, k < 64 → ((nI k).toInt64.toUInt64 &&& Int64.toUInt64 63) = UInt64.ofNat k := by decide +kernel
theorem wb_lt2 {a b : Nat} (h : a < b) : 2 ^ a < 2 ^ b := Nat.pow_lt_pow_right (by decide) h
theorem wb_shr {n k : Nat} (hn : n < 2 ^ 64) (hk : k < 64) : ((lN n).toUInt64 >>> ((nI k).toInt64.toUInt64 &&& Int64.toUInt64 63)).toInt64 = lN (n / 2 ^ k) := by
  rw [wb_cu k hk]
  apply wb_inj
  apply BitVec.eq_of_toNat_eq
  show ((lN n).toUInt64 >>> UInt64.ofNat k).toNat = (BitVec.ofNat 64 _).toNat
  have h1 : (UInt64.ofNat k).toNat = k := by
    show (BitVec.ofNat 64 k).toNat = k
    rw [BitVec.toNat_ofNat, Nat.mod_eq_of_lt (by omega)]
  have h2 : (lN n).toUInt64.toNat = n := wb_tn hn
  rw [UInt64.toNat_shiftRight, h1, h2, Nat.mod_eq_of_lt hk, Nat.shiftRight_eq_div_pow, BitVec.toNat_ofNat, Nat.mod_eq_of_lt (Nat.lt_of_le_of_lt (Nat.div_le_self _ _) hn)]
theorem wb_and {a b : Nat} (ha : a < 2 ^ 64) (hb : b < 2 ^ 64) : lN a &&& lN b = lN (a &&& b) := by
  apply wb_inj
  rw [Int64.toBitVec_and, wb_tb, wb_tb, wb_tb]
  apply BitVec.eq_of_toNat_eq
  rw [BitVec.toNat_and, BitVec.toNat_ofNat, BitVec.toNat_ofNat, BitVec.toNat_ofNat, Nat.mod_eq_of_lt ha, Nat.mod_eq_of_lt hb, Nat.mod_eq_of_lt (Nat.and_lt_two_pow _ hb)]
theorem wb_mask {n k : Nat} (hn : n < 2 ^ 64) (hk : k < 64) : lN n &&& lN (2 ^ k - 1) = lN (n % 2 ^ k) := by
  rw [wb_and hn (by have := wb_lt2 hk; omega), Nat.and_two_pow_sub_one_eq_mod]
end
section
/-! plain numbers: the digit and the rest of one step of the recoding, and the count of digits that aren't zero -/
/-- the non-adjacent digit of r -/
def zn_dg (r : Nat) : Int32 := if r % 2 = 0 then 0 else if r % 4 = 1 then 1 else -1
/-- what is left of r behind its digit -/
def zn_nx (r : Nat) : Nat := if r % 4 = 3 then r / 2 + 1 else r / 2
/-- how many of the first n digits aren't zero -/
def zn_ct (a : Nat → Int32) : Nat → Int32
  | 0 => 0
  | n + 1 => if a n = 0 then zn_ct a n else zn_ct a n + 1
theorem zn_dg0 {r : Nat} (h : r % 2 = 0) : zn_dg r = 0 := if_pos h
theorem zn_dg1 {r : Nat} (h : r % 4 = 1) : zn_dg r = 1 := by
  unfold zn_dg
  rw [if_neg (by omega), if_pos h]
theorem zn_dg3 {r : Nat} (h : r % 4 = 3) : zn_dg r = -1 := by
  unfold zn_dg
  rw [if_neg (by omega), if_neg (by omega)]
theorem zn_nxN {r : Nat} (h : ¬ r % 4 = 3) : zn_nx r = r / 2 := if_neg h
theorem zn_nx3 {r : Nat} (h : r % 4 = 3) : zn_nx r = r / 2 + 1 := if_pos h
theorem zn_ct_upd (a : Nat → Int32) (x : Int32) (k : Nat) : ∀ n : Nat, n ≤ k → zn_ct (upd a k x) n = zn_ct a n := by
  intro n
  induction n with
  | zero => intro _; rfl
  | succ n ih =>
    intro h
    show (if upd a k x n = 0 then zn_ct (upd a k x) n else zn_ct (upd a k x) n + 1) = (if a n = 0 then zn_ct a n else zn_ct a n + 1)
    rw [ih (by omega), pk_un (by omega)]
theorem zn_ct_s (a : Nat → Int32) (x : Int32) (n : Nat) : zn_ct (upd a n x) (n + 1) = if x = 0 then zn_ct a n else zn_ct a n + 1 := by
  show (if upd a n x n = 0 then zn_ct (upd a n x) n else zn_ct (upd a n x) n + 1) = _
  rw [pk_us, zn_ct_upd a x n n (Nat.le_refl n)]
/-- the rest halves the bound: 2 r at most 2^(d+1) gives 2 (rest) at most 2^d -/
theorem zn_half {d r : Nat} (h : 2 * r ≤ 2 ^ (d + 1)) : 2 * zn_nx r ≤ 2 ^ d := by
  rw [Nat.pow_succ] at h
  by_cases h3 : r % 4 = 3
  · rw [zn_nx3 h3]
    cases d with
    | zero => omega
    | succ e =>
      rw [Nat.pow_succ] at h ⊢
      omega
  · rw [zn_nxN h3]
    omega
theorem zn_nx_lt {r : Nat} (h : r < 2 ^ 63) : zn_nx r < 2 ^ 63 := by
  unfold zn_nx
  split <;> omega
/-! longs -/
theorem zn_a1 {r : Nat} (h : r < 2 ^ 63) : lN r &&& 1 = lN (r % 2) := wb_mask (k := 1) (by omega) (by decide)
theorem zn_a3 {r : Nat} (h : r < 2 ^ 63) : lN r &&& 3 = lN (r % 4) := wb_mask (k := 2) (by omega) (by decide)
theorem zn_s1 {r : Nat} (h : r < 2 ^ 64) : ((lN r).toUInt64 >>> ((1 : Int32).toInt64.toUInt64 &&& Int64.toUInt64 63)).toInt64 = lN (r / 2) := wb_shr (k := 1) h (by decide)
theorem zn_e0 {r : Nat} (h : r < 2 ^ 63) : lN r = 0 ↔ r = 0 := pk_lEQ (b := 0) h (by decide)
theorem zn_e1 {r : Nat} (h : r < 2 ^ 63) : lN r = 1 ↔ r = 1 := pk_lEQ (b := 1) h (by decide)
theorem zn_m0 {r : Nat} (h : r < 2 ^ 63) : lN r &&& 1 = 0 ↔ r % 2 = 0 := by rw [zn_a1 h]; exact zn_e0 (by omega)
theorem zn_m1 {r : Nat} (h : r < 2 ^ 63) : lN r &&& 3 = 1 ↔ r % 4 = 1 := by rw [zn_a3 h]; exact zn_e1 (by omega)
theorem zn_t3 {r : Nat} (h : r < 2 ^ 63) : (lN r &&& 3).toInt32 = nI (r % 4) := by rw [zn_a3 h, lN_i]
theorem zn_c0 : (0 : Int32).toInt64 = lN 0 := by decide
theorem zn_c1 : (1 : Int32).toInt64 = lN 1 := by decide
theorem zn_cm : (-1 : Int32).toInt64 = -1 := by decide
theorem zn_x0 {r : Nat} (h : r < 2 ^ 63) (h2 : r % 2 = 0) : ((lN r - (0 : Int32).toInt64).toUInt64 >>> ((1 : Int32).toInt64.toUInt64 &&& Int64.toUInt64 63)).toInt64 = lN (zn_nx r) := by
  rw [zn_c0, lN_sub (Nat.zero_le r), Nat.sub_zero, zn_s1 (by omega), zn_nxN (by omega)]
theorem zn_x1 {r : Nat} (h : r < 2 ^ 63) (h1 : r % 4 = 1) : ((lN r - (1 : Int32).toInt64).toUInt64 >>> ((1 : Int32).toInt64.toUInt64 &&& Int64.toUInt64 63)).toInt64 = lN (zn_nx r) := by
  have e : lN r - (1 : Int32).toInt64 = lN (r - 1) := by rw [zn_c1]; exact lN_sub (by omega)
  rw [e, zn_s1 (by omega), zn_nxN (by omega), show (r - 1) / 2 = r / 2 by omega]
theorem zn_x3 {r : Nat} (h : r < 2 ^ 63) (h3 : r % 4 = 3) : ((lN r - (-1 : Int32).toInt64).toUInt64 >>> ((1 : Int32).toInt64.toUInt64 &&& Int64.toUInt64 63)).toInt64 = lN (zn_nx r) := by
  have e : lN r - (-1 : Int32).toInt64 = lN (r + 1) := by
    rw [zn_cm, ← lN_1, Int64.sub_eq_add_neg]
    rfl
  rw [e, zn_s1 (by omega), zn_nx3 h3, show (r + 1) / 2 = r / 2 + 1 by omega]
theorem zn_in (a0 : Int64) : ∃ r : Nat, r < 2 ^ 63 ∧ a0 &&& 9223372036854775807 = lN r := by
  obtain ⟨n, hn, rfl⟩ := wb_of a0
  exact ⟨n % 2 ^ 63, Nat.mod_lt _ (by decide), wb_mask (k := 63) hn (by decide)⟩
/-! small types: the three digits are bytes -/
theorem zn_b0 : vp_nar .byte 0 = 0 := by rw [vp_nar_byte]; decide
theorem zn_b1 : vp_nar .byte 1 = 1 := by rw [vp_nar_byte]; decide
theorem zn_bm : vp_nar .byte (-1) = -1 := by rw [vp_nar_byte]; decide
end
section
/-! the component's loop, one step -/
theorem zn_x66 {post : Int32 → SX → Prop} {J : Int64 → Int32 → (Nat → Int32) → Prop} {x5 y : Int64} {j : Nat} {d : Int32} {s : Int64} {fl : Int32} {a : Nat → Int32} (hj : j < 66) (e : ((x5 - d.toInt64).toUInt64 >>> ((1 : Int32).toInt64.toUInt64 &&& Int64.toUInt64 63)).toInt64 = y) (h : J y (nI (j + 1)) (upd a j d)) : wX_recode_66 post J x5 (nI j) d s fl a := by
  unfold wX_recode_66
  have e1 : upd a (nI j).toNatClampNeg d = upd a j d := by rw [nI_clamp (by omega)]
  exact And.intro (vp_in_nI hj (by decide)) (nm_r e1 (nm_r (nI_1 j) (nm_r e h)))
theorem zn_n66 {j : Nat} (hj : j < 66) : ¬ (66 : Int32) ≤ nI j := nI_ge (b := 66) hj (by decide)
theorem zn_xs {post : Int32 → SX → Prop} {s : Int64} {fl : Int32} {n r j : Nat} {a : Nat → Int32} (hr : r < 2 ^ 63) (h0 : ¬ r = 0) (hj : j < 66) (h : wX_recode_17 post s fl n (lN (zn_nx r)) (nI (j + 1)) (upd a j (zn_dg r))) : wX_recode_17 post s fl (n + 1) (lN r) (nI j) a := by
  refine br_f (fun z => h0 ((zn_e0 hr).mp z)) (br_f (zn_n66 hj) ?_)
  by_cases h2 : r % 2 = 0
  · rw [zn_dg0 h2] at h
    exact br_t ((zn_m0 hr).mpr h2) (zn_x66 hj (zn_x0 hr h2) h)
  · refine br_f (fun z => h2 ((zn_m0 hr).mp z)) ?_
    by_cases h1 : r % 4 = 1
    · rw [zn_dg1 h1] at h
      exact br_t ((zn_m1 hr).mpr h1) (zn_x66 hj (zn_x1 hr h1) h)
    · have h3 : r % 4 = 3 := by omega
      rw [zn_dg3 h3] at h
      exact br_f (fun z => h1 ((zn_m1 hr).mp z)) (zn_x66 hj (zn_x3 hr h3) h)
/-! the reference's loop, one step -/
theorem zn_y79 {post : Int32 → SY → Prop} {J : Int64 → Int32 → Int32 → (Nat → Int32) → Prop} {x3 : Int64} {d : Int32} {s : Int64} {j : Nat} {w : Int32} {a : Nat → Int32} (hj : j < 66) (hd : vp_nar .byte d = d) (h : J x3 (nI (j + 1)) w (upd a j d)) : wY_recode_79 post J x3 d s (nI j) w a := by
  unfold wY_recode_79
  have e1 : upd a (nI j).toNatClampNeg (vp_nar .byte d) = upd a j d := by rw [nI_clamp (by omega), hd]
  exact nm_r (nI_1 j) (And.intro (vp_in_nI hj (by decide)) (nm_r e1 h))
theorem zn_y64 {post : Int32 → SY → Prop} {J : Int64 → Int32 → Int32 → (Nat → Int32) → Prop} {x3 : Int64} {d : Int32} {s : Int64} {j : Nat} {w : Int32} {a : Nat → Int32} (hj : j < 66) (hd : vp_nar .byte d = d) (h : J x3 (nI (j + 1)) (if d = 0 then w else w + 1) (upd a j d)) : wY_recode_64 post J x3 d s (nI j) w a := by
  unfold wY_recode_64
  by_cases z : d = 0
  · rw [if_pos z] at h
    exact br_t z (zn_y79 hj hd h)
  · rw [if_neg z] at h
    exact br_f z (nm_e (zn_y79 hj hd h))
theorem zn_y51n {post : Int32 → SY → Prop} {J : Int64 → Int32 → Int32 → (Nat → Int32) → Prop} {x3 : Int64} {x5 d : Int32} {s : Int64} {j : Nat} {w : Int32} {a : Nat → Int32} (h5 : ¬ x5 = 3) (hj : j < 66) (hd : vp_nar .byte d = d) (h : J x3 (nI (j + 1)) (if d = 0 then w else w + 1) (upd a j d)) : wY_recode_51 post J x3 x5 d s (nI j) w a := by
  unfold wY_recode_51
  exact br_f h5 (zn_y64 hj hd h)
theorem zn_y51t {post : Int32 → SY → Prop} {J : Int64 → Int32 → Int32 → (Nat → Int32) → Prop} {x3 y : Int64} {x5 d : Int32} {s : Int64} {j : Nat} {w : Int32} {a : Nat → Int32} (h5 : x5 = 3) (hj : j < 66) (e : x3 + 1 = y) (h : J y (nI (j + 1)) (if (-1 : Int32) = 0 then w else w + 1) (upd a j (-1))) : wY_recode_51 post J x3 x5 d s (nI j) w a := by
  unfold wY_recode_51
  exact br_t h5 (nm_r e (zn_y64 hj zn_bm h))
theorem zn_ys {post : Int32 → SY → Prop} {s : Int64} {n r j : Nat} {w : Int32} {a : Nat → Int32} (hr : r < 2 ^ 63) (h0 : ¬ r = 0) (hj : j < 66) (h : wY_recode_21 post s n (lN (zn_nx r)) (nI (j + 1)) (if zn_dg r = 0 then w else w + 1) (upd a j (zn_dg r))) : wY_recode_21 post s (n + 1) (lN r) (nI j) w a := by
  refine br_f (fun z => h0 ((zn_e0 hr).mp z)) (nm_r (zn_t3 hr) (nm_r (zn_s1 (by omega)) ?_))
  have q1 : nI (r % 4) = 1 ↔ r % 4 = 1 := nI_eq (b := 1) (by omega) (by decide)
  have q3 : nI (r % 4) = 3 ↔ r % 4 = 3 := nI_eq (b := 3) (by omega) (by decide)
  by_cases h1 : r % 4 = 1
  · rw [zn_dg1 h1, zn_nxN (by omega)] at h
    exact br_t (q1.mpr h1) (zn_y51n (fun z => by have := q3.mp z; omega) hj zn_b1 h)
  · refine br_f (fun z => h1 (q1.mp z)) ?_
    by_cases h3 : r % 4 = 3
    · rw [zn_dg3 h3, zn_nx3 h3] at h
      exact zn_y51t (q3.mpr h3) hj (lN_1 _) h
    · rw [zn_dg0 (by omega), zn_nxN h3] at h
      exact zn_y51n (fun z => h3 (q3.mp z)) hj zn_b0 h
/-! both loops: one outcome -/
theorem zn_rec (s : Int64) (fl : Int32) : ∀ (d r j : Nat) (a : Nat → Int32), 2 * r ≤ 2 ^ d → r < 2 ^ 63 → j + d ≤ 64 → ∃ (m : Nat) (b : Nat → Int32), m ≤ 64 ∧ (∀ post : Int32 → SX → Prop, post (nI m) (s, nI m, b) → wX_recode_17 post s fl (d + 1) (lN r) (nI j) a) ∧ (∀ post : Int32 → SY → Prop, post (nI m) (s, nI m, zn_ct b m, b) → wY_recode_21 post s (d + 1) (lN r) (nI j) (zn_ct a j) a) := by
  intro d
  induction d with
  | zero =>
    intro r j a hb hr hj
    have z : r = 0 := by omega
    subst z
    exact ⟨j, a, by omega, fun _ hp => br_t rfl hp, fun _ hp => br_t rfl hp⟩
  | succ d ih =>
    intro r j a hb hr hj
    by_cases z : r = 0
    · subst z
      exact ⟨j, a, by omega, fun _ hp => br_t rfl hp, fun _ hp => br_t rfl hp⟩
    · obtain ⟨m, b, hm, hX, hY⟩ := ih (zn_nx r) (j + 1) (upd a j (zn_dg r)) (zn_half hb) (zn_nx_lt hr) (by omega)
      rw [zn_ct_s] at hY
      exact ⟨m, b, hm, fun post hp => zn_xs hr z (by omega) (hX post hp), fun post hp => zn_ys hr z (by omega) (hY post hp)⟩
/-! the component's count of digits that aren't zero -/
theorem zn_wt (s : Int64) (a : Nat → Int32) (m : Nat) (hm : m ≤ 64) : ∀ d j : Nat, j + d = m → ∀ post : Int32 → Prop, post (zn_ct a m) → wX_weight_4 post s (nI m) a (d + 1) (zn_ct a j) (nI j) := by
  intro d
  induction d with
  | zero =>
    intro j hj post hp
    have e : j = m := by omega
    subst e
    exact br_t (nI_le (Nat.le_refl j) (by omega)) hp
  | succ d ih =>
    intro j hj post hp
    have H := ih (j + 1) (by omega) post hp
    have ej : (nI j).toNatClampNeg = j := nI_clamp (by omega)
    refine br_f (nI_ge (by omega) (by omega)) (And.intro (vp_in_nI (by omega) (by decide)) ?_)
    rw [ej]
    by_cases z : a j = 0
    · have e : zn_ct a (j + 1) = zn_ct a j := if_pos z
      rw [e] at H
      exact br_t z (nm_r (nI_1 j) H)
    · have e : zn_ct a (j + 1) = zn_ct a j + 1 := if_neg z
      rw [e] at H
      exact br_f z (nm_e (nm_r (nI_1 j) H))
/-! what is owed -/
/-- one scalar, one length, one array of digits; the reference's count is that of the digits -/
def i_Rel (k : Nat) (u : SX) (v : SY) : Prop := ∃ (s : Int64) (m : Nat) (a : Nat → Int32), m ≤ 64 ∧ u = (s, nI m, a) ∧ v = (s, nI m, zn_ct a m, a)
theorem i_up {k : Nat} {u : SX} {v : SY} (h : i_Rel k u v) : i_Rel (k + 3) u v := h
theorem i_vc0 : wpX_init (fun u => wpY_init (fun v => i_Rel 0 u v)) := ⟨0, 0, fun _ => 0, by decide, rfl, rfl⟩
theorem i_vc_recode {k : Nat} {u : SX} {v : SY} (I : i_Rel k u v) (hk : k + 3 ≤ 1536) (a0 : Int64) : wpX_recode (fun r u' => wpY_recode (fun r' v' => r' = r ∧ i_Rel (k + 3) u' v') v a0) u a0 := by
  obtain ⟨s, m, a, hm, rfl, rfl⟩ := I
  obtain ⟨r, hr, er⟩ := zn_in a0
  obtain ⟨m', b, hm', hX, hY⟩ := zn_rec (lN r) (nI m) 64 r 0 a (by omega) hr (by omega)
  unfold wpX_recode wpY_recode
  dsimp only
  refine nm_r er ⟨65, hX _ ?_⟩
  exact nm_r er (nm_r er ⟨65, hY _ ⟨rfl, lN r, m', b, hm', rfl, rfl⟩⟩)
theorem i_vc_digit {k : Nat} {u : SX} {v : SY} (I : i_Rel k u v) (hk : k + 3 ≤ 1536) (v1 : Int32) : wpX_digit (fun r => wpY_digit (fun r' => r' = r ∧ i_Rel (k + 3) u v) v v1) u v1 := by
  have I' := I
  obtain ⟨s, m, a, hm, rfl, rfl⟩ := I'
  have K : i_Rel (k + 3) (s, nI m, a) (s, nI m, zn_ct a m, a) := i_up I
  by_cases h0 : v1 < 0
  · exact br_t h0 (br_t h0 ⟨rfl, K⟩)
  · by_cases hl : v1 < nI m
    · have hi : vp_in v1 66 := by
        obtain ⟨j, hj, rfl⟩ := nI_of h0
        rw [nI_ltI hj (by omega)] at hl
        exact vp_in_nI (by omega) (by decide)
      exact br_f h0 (br_t hl ⟨hi, br_f h0 (br_t hl ⟨hi, rfl, K⟩)⟩)
    · exact br_f h0 (br_f hl (br_f h0 (br_f hl ⟨rfl, K⟩)))
theorem i_vc_weight {k : Nat} {u : SX} {v : SY} (I : i_Rel k u v) (hk : k + 3 ≤ 1536) : wpX_weight (fun r => wpY_weight (fun r' => r' = r ∧ i_Rel (k + 3) u v) v) u := by
  have I' := I
  obtain ⟨s, m, a, hm, rfl, rfl⟩ := I'
  exact ⟨m + 1, zn_wt s a m hm m 0 (by omega) _ ⟨rfl, i_up I⟩⟩
theorem i_vc_scalar {k : Nat} {u : SX} {v : SY} (I : i_Rel k u v) (hk : k + 3 ≤ 1536) : wpX_scalar (fun r => wpY_scalar (fun r' => r' = r ∧ i_Rel (k + 3) u v) v) u := by
  have I' := I
  obtain ⟨s, m, a, hm, rfl, rfl⟩ := I'
  exact ⟨rfl, i_up I⟩
end
