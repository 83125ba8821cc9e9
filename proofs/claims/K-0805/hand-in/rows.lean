section
/-! rows of the kit to paste (PURE-ROWS, BITS): subtraction, shifts, long division over naturals -/
theorem pk_sub {a b : Nat} (h : b ≤ a) : nI a - nI b = nI (a - b) := by
  obtain ⟨c, rfl⟩ : ∃ c, a = c + b := ⟨a - b, by omega⟩
  rw [← nI_add, Int32.add_sub_cancel, Nat.add_sub_cancel]
theorem pk_shr (a s : Int32) (k : Nat) (hs : (s.toBitVec.smod 32).toNat = k) : (a >>> s).toInt = a.toInt >>> k := by
  show (a.toBitVec.sshiftRight (s.toBitVec.smod 32).toNat).toInt = _
  rw [hs, BitVec.toInt_sshiftRight]
  rfl
theorem pk_shrN {n : Nat} (h : n < 2 ^ 31) (s : Int32) (k : Nat) (hs : (s.toBitVec.smod 32).toNat = k) : nI n >>> s = nI (n / 2 ^ k) := by
  apply Int32.toInt_inj.mp
  have h2 : n / 2 ^ k ≤ n := Nat.div_le_self _ _
  rw [pk_shr _ _ k hs, nI_toInt h, nI_toInt (by omega), Int.shiftRight_eq_div_pow]
  rfl
theorem pk_lT {n : Nat} (h : n < 2 ^ 63) : (lN n).toInt = (n : Int) := lg_ofNat_toInt h
theorem pk_lEQ {a b : Nat} (ha : a < 2 ^ 63) (hb : b < 2 ^ 63) : lN a = lN b ↔ a = b := by
  rw [← Int64.toInt_inj, pk_lT ha, pk_lT hb]; omega
theorem pk_lDiv {a b : Nat} (ha : a < 2 ^ 63) (h0 : 0 < b) (hb : b < 2 ^ 63) : lN a / lN b = lN (a / b) := by
  apply Int64.toInt_inj.mp
  rw [lg_ldiv_nonneg (by rw [pk_lT ha]; omega) (by rw [pk_lT hb]; omega), pk_lT ha, pk_lT hb, pk_lT (Nat.lt_of_le_of_lt (Nat.div_le_self a b) ha)]
  rfl
theorem g_shl {a k p : Nat} {y : Int64} (hy : y.toBitVec.smod 64 = BitVec.ofNat 64 k) (hk : k < 64) (hp : 2 ^ k = p) (ha : a < 2 ^ 64) : lN a <<< y = lN (a * p) := by
  subst hp
  apply Int64.toBitVec_inj.mp
  rw [Int64.toBitVec_shiftLeft, hy]
  apply BitVec.eq_of_toNat_eq
  have hb : (lN a).toBitVec.toNat = a := Nat.mod_eq_of_lt ha
  have hk' : (BitVec.ofNat 64 k).toNat = k := Nat.mod_eq_of_lt (by omega)
  have h : ((lN a).toBitVec <<< BitVec.ofNat 64 k).toNat = (a * 2 ^ k) % 2 ^ 64 := by simp only [BitVec.shiftLeft_eq', BitVec.toNat_shiftLeft, hb, hk', Nat.shiftLeft_eq]
  exact h
theorem pf_lI {a : Nat} (h : a < 2 ^ 63) : (lN a).toInt = (a : Int) := lg_ofNat_toInt h
theorem pf_shr {a d : Nat} {D : Int64} (hD : (D.toBitVec.smod 64).toNat = d) (h : a < 2 ^ 62) : lN a >>> D = lN (a / 2 ^ d) := by
  have hd : a / 2 ^ d ≤ a := Nat.div_le_self _ _
  apply Int64.toInt_inj.mp
  have e : (lN a >>> D).toInt = (lN a).toInt >>> d := by
    rw [← hD]
    exact BitVec.toInt_sshiftRight ..
  rw [e, Int.shiftRight_eq_div_pow, pf_lI (by omega), pf_lI (by omega)]
  rfl
end
section
/-! what the two sides reckon, over naturals: no program in sight -/
/-- the new estimate, ahead of its clamp -/
def da_next (a m q : Nat) : Nat := a - a / 16 + m * 64 / q
/-- the window behind a cut, ahead of its floor -/
def da_cut (c a : Nat) : Nat := c - c * a / 2048
theorem da_quo {m q : Nat} (h : m ≤ q) : m * 64 / q ≤ 64 :=
  Nat.div_le_of_le_mul (Nat.mul_le_mul_right 64 h)
theorem da_next_le {a m q : Nat} (ha : a ≤ 1024) (h : m ≤ q) : da_next a m q ≤ 1088 := by
  have h1 := da_quo h
  have h2 : a - a / 16 ≤ a := Nat.sub_le _ _
  show a - a / 16 + m * 64 / q ≤ 1088
  omega
theorem da_mul_le {c a : Nat} (hc : c < 2147483648) (ha : a ≤ 1024) : c * a ≤ c * 1024 := Nat.mul_le_mul_left c ha
theorem da_mul_lt {c a : Nat} (hc : c < 2147483648) (ha : a ≤ 1024) : c * a < 2 ^ 42 := by
  have h := da_mul_le hc ha
  generalize c * a = p at h
  omega
theorem da_sub_le {c a : Nat} (hc : c < 2147483648) (ha : a ≤ 1024) : c * a / 2048 ≤ c := by
  have h := da_mul_le hc ha
  generalize c * a = p at h
  omega
theorem da_cut_lt {c a : Nat} (hc : c < 2147483648) : da_cut c a < 2147483648 :=
  Nat.lt_of_le_of_lt (Nat.sub_le _ _) hc
/-- the component's decay: alpha -= alpha >> 4 -/
theorem da_x1 {a : Nat} (ha : a ≤ 1024) : nI a - (nI a >>> ((4 : Int32) &&& 31)) = nI (a - a / 16) := by
  have h : nI a >>> ((4 : Int32) &&& 31) = nI (a / 16) := pk_shrN (by omega) _ 4 (by decide)
  rw [h, pk_sub (Nat.div_le_self _ _)]
/-- the component's gain: (int) ((marked << 6) / acked), added -/
theorem da_x2 {a m q : Nat} (h : m ≤ q) (h0 : 0 < q) (hq : q < 2 ^ 42) : nI (a - a / 16) + ((lN m <<< ((6 : Int32).toInt64 &&& 63)) / lN q).toInt32 = nI (da_next a m q) := by
  have e1 : lN m <<< ((6 : Int32).toInt64 &&& 63) = lN (m * 64) := g_shl (k := 6) (by decide) (by decide) rfl (by omega)
  rw [e1, pk_lDiv (by omega) h0 (by omega), lN_i, nI_add]
  rfl
/-- the reference's estimate in one row -/
theorem da_y {a m q : Nat} (ha : a ≤ 1024) (h : m ≤ q) (h0 : 0 < q) (hq : q < 2 ^ 42) : (lN a - lN a / 16) + ((lN m * 64) / lN q) = lN (da_next a m q) := by
  have e1 : lN a / 16 = lN (a / 16) := pk_lDiv (b := 16) (by omega) (by decide) (by decide)
  have e2 : lN m * 64 = lN (m * 64) := lN_mul m 64
  rw [e1, e2, lN_sub (Nat.div_le_self _ _), pk_lDiv (by omega) h0 (by omega), lN_add]
  rfl
/-- the component's cut -/
theorem da_xc {c a : Nat} (hc : c < 2147483648) (ha : a ≤ 1024) : nI c - (((nI c).toInt64 * (nI a).toInt64) >>> ((11 : Int32).toInt64 &&& 63)).toInt32 = nI (da_cut c a) := by
  have h1 := da_mul_lt hc ha
  have e : lN (c * a) >>> ((11 : Int32).toInt64 &&& 63) = lN (c * a / 2048) := pf_shr (d := 11) (by decide) (Nat.lt_trans h1 (by decide))
  rw [nI_l hc, nI_l (by omega), lN_mul, e, lN_i, pk_sub (da_sub_le hc ha)]
  rfl
/-- the reference's cut -/
theorem da_yc {c a : Nat} (hc : c < 2147483648) (ha : a ≤ 1024) : lN c - ((lN c * lN a) / 2048) = lN (da_cut c a) := by
  have h1 := da_mul_lt hc ha
  have e : lN (c * a) / 2048 = lN (c * a / 2048) := pk_lDiv (b := 2048) (Nat.lt_trans h1 (by decide)) (by decide) (by decide)
  rw [lN_mul, e, lN_sub (da_sub_le hc ha)]
  rfl
end
section
/-- both sides hold one window c, one estimate a, one pair of counters q (acked) and m (marked): as int or long; each turn adds less than 2^31 to q -/
def i_Rel (k : Nat) (u : SX) (v : SY) : Prop :=
  ∃ c a q m : Nat, u = (nI c, nI a, lN q, lN m) ∧ v = (lN a, lN q, lN m, lN c) ∧ 2 ≤ c ∧ c < 2147483648 ∧ a ≤ 1024 ∧ m ≤ q ∧ q ≤ k * 2147483648
theorem da_mk {k : Nat} (c a q m : Nat) (h2 : 2 ≤ c) (hc : c < 2147483648) (ha : a ≤ 1024) (hm : m ≤ q) (hq : q ≤ k * 2147483648) : i_Rel k (nI c, nI a, lN q, lN m) (lN a, lN q, lN m, lN c) :=
  ⟨c, a, q, m, rfl, rfl, h2, hc, ha, hm, hq⟩
theorem da_k {q k : Nat} (h : q ≤ k * 2147483648) : q ≤ (k + 3) * 2147483648 :=
  Nat.le_trans h (Nat.mul_le_mul_right 2147483648 (Nat.le_add_right k 3))
theorem i_up {k : Nat} {u : SX} {v : SY} (h : i_Rel k u v) : i_Rel (k + 3) u v := by
  obtain ⟨c, a, q, m, rfl, rfl, h2, hc, ha, hm, hq⟩ := h
  exact da_mk c a q m h2 hc ha hm (da_k hq)
theorem i_vc0 (k0 : Int32) : wpX_init (fun u => wpY_init (fun v => i_Rel 1 u v) k0) k0 := by
  by_cases h : (2 : Int32) ≤ k0
  · have h0 : ¬ k0 < 0 := fun z => absurd (Int32.lt_of_le_of_lt h z) (by decide)
    obtain ⟨c, hc, rfl⟩ := nI_of h0
    have h2 : 2 ≤ c := (nI_leI (a := 2) (by decide) hc).mp h
    refine br_t h (br_t h ?_)
    rw [nI_l hc]
    exact da_mk c 1024 0 0 h2 hc (by decide) (by decide) (by decide)
  · exact br_f h (br_f h (da_mk 2 1024 0 0 (by decide) (by decide) (by decide) (by decide) (by decide)))
theorem i_vc_ack {k : Nat} {u : SX} {v : SY} (I : i_Rel k u v) (hk : k + 3 ≤ 1537) (v1 : Int32) (v2 : Int32) : wpX_ack (fun r u' => wpY_ack (fun r' v' => r' = r ∧ i_Rel (k + 3) u' v') v v1 (lw_bz v2)) u v1 (lw_bz v2) := by
  obtain ⟨c, a, q, m, rfl, rfl, h2, hc, ha, hm, hq⟩ := I
  by_cases h : (0 : Int32) < v1
  · have h0 : ¬ v1 < 0 := fun z => absurd (Int32.lt_trans h z) (by decide)
    obtain ⟨b, hb, rfl⟩ := nI_of h0
    have e1 : lN q + (nI b).toInt64 = lN (q + b) := by rw [nI_l hb, lN_add]
    have e2 : lN m + (nI b).toInt64 = lN (m + b) := by rw [nI_l hb, lN_add]
    by_cases z : lw_bz v2 = 0
    · exact br_t h (nm_r e1 (br_t z (br_t h (br_t z (nm_r e1 (And.intro e1 (da_mk c a (q + b) m h2 hc ha (by omega) (by omega))))))))
    · exact br_t h (nm_r e1 (br_f z (nm_r e2 (br_t h (br_f z (nm_r e2 (nm_r e1 (And.intro e1 (da_mk c a (q + b) (m + b) h2 hc ha (by omega) (by omega))))))))))
  · exact br_f h (br_f h (And.intro rfl (da_mk c a q m h2 hc ha hm (da_k hq))))
theorem i_vc_endWindow {k : Nat} {u : SX} {v : SY} (I : i_Rel k u v) (hk : k + 3 ≤ 1537) : wpX_endWindow (fun r u' => wpY_endWindow (fun r' v' => r' = r ∧ i_Rel (k + 3) u' v') v) u := by
  obtain ⟨c, a, q, m, rfl, rfl, h2, hc, ha, hm, hq⟩ := I
  have hb : q < 2 ^ 42 := by omega
  by_cases z : q = 0
  · have h : lN q = 0 := by rw [z]; rfl
    exact br_t h (br_t h (And.intro rfl (da_mk c a q m h2 hc ha hm (da_k hq))))
  · have h : ¬ lN q = 0 := fun e => z ((pk_lEQ (a := q) (b := 0) (by omega) (by decide)).mp e)
    have e1 := da_x1 ha
    have e2 := da_x2 (a := a) hm (Nat.pos_of_ne_zero z) hb
    have e3 := da_y ha hm (Nat.pos_of_ne_zero z) hb
    have hs := da_next_le ha hm
    generalize da_next a m q = s at e2 e3 hs
    have h16 : ¬ (16 : Int64) = 0 := by decide
    by_cases w : s ≤ 1024
    · have hx : nI s ≤ 1024 := (nI_leI (b := 1024) (by omega) (by decide)).mpr w
      have hy : lN s ≤ 1024 := (lN_le (b := 1024) (by omega) (by decide)).mpr w
      exact br_f h <| nm_r e1 <| And.intro h <| nm_r e2 <| br_t hx <| br_f h <| And.intro h16 <| And.intro h <| nm_r e3 <| br_t hy <| And.intro (lN_i s) (da_mk c s 0 0 h2 hc w (Nat.le_refl 0) (Nat.zero_le _))
    · have hx : ¬ nI s ≤ 1024 := fun e => w ((nI_leI (b := 1024) (by omega) (by decide)).mp e)
      have hy : ¬ lN s ≤ 1024 := fun e => w ((lN_le (b := 1024) (by omega) (by decide)).mp e)
      exact br_f h <| nm_r e1 <| And.intro h <| nm_r e2 <| br_f hx <| br_f h <| And.intro h16 <| And.intro h <| nm_r e3 <| br_f hy <| And.intro (lN_i 1024) (da_mk c 1024 0 0 h2 hc (Nat.le_refl 1024) (Nat.le_refl 0) (Nat.zero_le _))
theorem i_vc_cut {k : Nat} {u : SX} {v : SY} (I : i_Rel k u v) (hk : k + 3 ≤ 1537) : wpX_cut (fun r => wpY_cut (fun r' => r' = r ∧ i_Rel (k + 3) u v) v) u := by
  obtain ⟨c, a, q, m, rfl, rfl, h2, hc, ha, hm, hq⟩ := I
  have hR : i_Rel (k + 3) (nI c, nI a, lN q, lN m) (lN a, lN q, lN m, lN c) := da_mk c a q m h2 hc ha hm (da_k hq)
  have e1 := da_xc hc ha
  have e2 := da_yc hc ha
  have hs := da_cut_lt (a := a) hc
  generalize da_cut c a = s at e1 e2 hs
  have h48 : ¬ (2048 : Int64) = 0 := by decide
  by_cases w : 2 ≤ s
  · have hx : 2 ≤ nI s := (nI_leI (a := 2) (by decide) hs).mpr w
    have hy : 2 ≤ lN s := (lN_le (a := 2) (by decide) hs).mpr w
    exact nm_r e1 (br_t hx (And.intro h48 (nm_r e2 (br_t hy (And.intro (lN_i s) hR)))))
  · have hx : ¬ 2 ≤ nI s := fun e => w ((nI_leI (a := 2) (by decide) hs).mp e)
    have hy : ¬ 2 ≤ lN s := fun e => w ((lN_le (a := 2) (by decide) hs).mp e)
    exact nm_r e1 (br_f hx (And.intro h48 (nm_r e2 (br_f hy (And.intro rfl hR)))))
theorem i_vc_alpha {k : Nat} {u : SX} {v : SY} (I : i_Rel k u v) (hk : k + 3 ≤ 1537) : wpX_alpha (fun r => wpY_alpha (fun r' => r' = r ∧ i_Rel (k + 3) u v) v) u := by
  obtain ⟨c, a, q, m, rfl, rfl, h2, hc, ha, hm, hq⟩ := I
  exact And.intro (lN_i a) (da_mk c a q m h2 hc ha hm (da_k hq))
end
