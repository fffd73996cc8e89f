section
/-! rows pasted from the kit (starting text): pk_, b_, wb_, g_ -/
theorem pk_us {f : Nat → Int32} {k : Nat} {x : Int32} : upd f k x k = x := if_pos rfl
theorem pk_un {f : Nat → Int32} {k j : Nat} {x : Int32} (h : j ≠ k) : upd f k x j = f j := if_neg h
theorem pk_sub {a b : Nat} (h : b ≤ a) : nI a - nI b = nI (a - b) := by
  obtain ⟨c, rfl⟩ : ∃ c, a = c + b := ⟨a - b, by omega⟩
  rw [← nI_add, Int32.add_sub_cancel, Nat.add_sub_cancel]
theorem pk_le {x y : Int32} {A B : Prop} (a b : Nat) (f : a ≤ b → A) (g : b < a → B) (hx : x = nI a := by rfl) (hy : y = nI b := by rfl) (ha : a < 2 ^ 31 := by omega) (hb : b < 2 ^ 31 := by omega) : (x ≤ y → A) ∧ (¬ x ≤ y → B) := by
  subst hx hy
  rw [nI_leI ha hb]
  exact ⟨f, fun z => g (by omega)⟩
theorem pk_lt {x y : Int32} {A B : Prop} (a b : Nat) (f : a < b → A) (g : b ≤ a → B) (hx : x = nI a := by rfl) (hy : y = nI b := by rfl) (ha : a < 2 ^ 31 := by omega) (hb : b < 2 ^ 31 := by omega) : (x < y → A) ∧ (¬ x < y → B) := by
  subst hx hy
  rw [nI_ltI ha hb]
  exact ⟨f, fun z => g (by omega)⟩
theorem pk_eq {x y : Int32} {A B : Prop} (a b : Nat) (f : a = b → A) (g : a ≠ b → B) (hx : x = nI a := by rfl) (hy : y = nI b := by rfl) (ha : a < 2 ^ 31 := by omega) (hb : b < 2 ^ 31 := by omega) : (x = y → A) ∧ (¬ x = y → B) := by
  subst hx hy
  rw [nI_eq ha hb]
  exact ⟨f, g⟩
theorem pk_tn {n : Nat} (h : n < 2 ^ 32) : (nI n).toBitVec.toNat = n := Nat.mod_eq_of_lt h
theorem pk_and (x : Int32) {m : Int32} (k : Nat) (hm : m.toBitVec.toNat = 2 ^ k - 1) : x &&& m = nI (x.toBitVec.toNat % 2 ^ k) := by
  apply Int32.toBitVec_inj.mp
  apply BitVec.eq_of_toNat_eq
  rw [Int32.toBitVec_and, BitVec.toNat_and, hm, Nat.and_two_pow_sub_one_eq_mod]
  show _ = (BitVec.ofNat 32 _).toNat
  rw [BitVec.toNat_ofNat]
  exact (Nat.mod_eq_of_lt (Nat.lt_of_le_of_lt (Nat.mod_le _ _) x.toBitVec.isLt)).symm
theorem pk_andN {n : Nat} (h : n < 2 ^ 32) {m : Int32} (k : Nat) (hm : m.toBitVec.toNat = 2 ^ k - 1) : nI n &&& m = nI (n % 2 ^ k) := by
  rw [pk_and _ k hm, pk_tn h]
theorem pk_vb (z : Int32) : vp_nar .byte z.toInt8.toInt32 = z.toInt8.toInt32 := by rw [vp_nar_byte]; simp
def bt (x : Int32) (i : Nat) : Bool := x.toBitVec.getLsbD i
theorem s_l : ∀ n, n < 32 → ((nI n &&& 31).toBitVec.smod 32).toNat = n := by decide +kernel
theorem b_sshr (n : Nat) (hn : n < 32) (x : Int32) {i : Nat} (hi : i < 32) : bt (x >>> (nI n &&& 31)) i = if n + i < 32 then bt x (n + i) else bt x 31 := by
  unfold bt
  rw [Int32.toBitVec_shiftRight]
  show (x.toBitVec.sshiftRight ((nI n &&& 31).toBitVec.smod 32).toNat).getLsbD i = _
  rw [s_l n hn, BitVec.getLsbD_sshiftRight, BitVec.msb_eq_getLsbD_last]
  simp [hi]
theorem wb_tb (n : Nat) : (lN n).toBitVec = BitVec.ofNat 64 n := rfl
theorem wb_inj {a b : Int64} (h : a.toBitVec = b.toBitVec) : a = b := Int64.toBitVec_inj.mp h
theorem wb_tn {n : Nat} (h : n < 2 ^ 64) : (lN n).toBitVec.toNat = n := by rw [wb_tb, BitVec.toNat_ofNat, Nat.mod_eq_of_lt h]
theorem wb_c : ∀ k, k < 64 → ((nI k).toInt64 &&& 63) = lN k := by decide +kernel
theorem wb_cu : ∀ k, k < 64 → ((nI k).toInt64.toUInt64 &&& Int64.toUInt64 63) = UInt64.ofNat k := by decide +kernel
theorem wb_sm : ∀ k, k < 64 → (BitVec.ofNat 64 k).smod 64 = BitVec.ofNat 64 k := by decide +kernel
theorem wb_lt2 {a b : Nat} (h : a < b) : 2 ^ a < 2 ^ b := Nat.pow_lt_pow_right (by decide) h
theorem wb_shr {n k : Nat} (hn : n < 2 ^ 64) (hk : k < 64) : ((lN n).toUInt64 >>> ((nI k).toInt64.toUInt64 &&& Int64.toUInt64 63)).toInt64 = lN (n / 2 ^ k) := by
  rw [wb_cu k hk]
  apply wb_inj
  apply BitVec.eq_of_toNat_eq
  show ((lN n).toUInt64 >>> UInt64.ofNat k).toNat = (BitVec.ofNat 64 _).toNat
  have h1 : (UInt64.ofNat k).toNat = k := by
    show (BitVec.ofNat 64 k).toNat = k
    rw [BitVec.toNat_ofNat, Nat.mod_eq_of_lt (by omega)]
  have h2 : (lN n).toUInt64.toNat = n := wb_tn hn
  rw [UInt64.toNat_shiftRight, h1, h2, Nat.mod_eq_of_lt hk, Nat.shiftRight_eq_div_pow, BitVec.toNat_ofNat, Nat.mod_eq_of_lt (Nat.lt_of_le_of_lt (Nat.div_le_self _ _) hn)]
theorem wb_shl (n : Nat) {k : Nat} (hk : k < 64) : lN n <<< ((nI k).toInt64 &&& 63) = lN (n * 2 ^ k) := by
  rw [wb_c k hk]
  apply wb_inj
  rw [Int64.toBitVec_shiftLeft, wb_tb, wb_tb, wb_tb, wb_sm k hk]
  apply BitVec.eq_of_toNat_eq
  rw [BitVec.shiftLeft_eq', BitVec.toNat_shiftLeft, BitVec.toNat_ofNat, BitVec.toNat_ofNat, BitVec.toNat_ofNat, Nat.mod_eq_of_lt (show k < 2 ^ 64 by omega), Nat.shiftLeft_eq, Nat.mul_mod, Nat.mod_mod, ← Nat.mul_mod]
theorem wb_and {a b : Nat} (ha : a < 2 ^ 64) (hb : b < 2 ^ 64) : lN a &&& lN b = lN (a &&& b) := by
  apply wb_inj
  rw [Int64.toBitVec_and, wb_tb, wb_tb, wb_tb]
  apply BitVec.eq_of_toNat_eq
  rw [BitVec.toNat_and, BitVec.toNat_ofNat, BitVec.toNat_ofNat, BitVec.toNat_ofNat, Nat.mod_eq_of_lt ha, Nat.mod_eq_of_lt hb, Nat.mod_eq_of_lt (Nat.and_lt_two_pow _ hb)]
theorem wb_mask {n k : Nat} (hn : n < 2 ^ 64) (hk : k < 64) : lN n &&& lN (2 ^ k - 1) = lN (n % 2 ^ k) := by
  rw [wb_and hn (by have := wb_lt2 hk; omega), Nat.and_two_pow_sub_one_eq_mod]
theorem u_tn {n : Nat} (h : n < 2 ^ 64) : (UInt64.ofNat n).toNat = n := Nat.mod_eq_of_lt h
theorem g_or {k p a b : Nat} (hp : 2 ^ k = p) (ha : a < p) (h : b * p + a < 2 ^ 64) : lN (b * p) ||| lN a = lN (b * p + a) := by
  subst hp
  have h1 : b * 2 ^ k ||| a = b * 2 ^ k + a := by rw [← Nat.shiftLeft_eq, Nat.shiftLeft_add_eq_or_of_lt ha]
  have h3 : UInt64.ofNat (b * 2 ^ k) ||| UInt64.ofNat a = UInt64.ofNat (b * 2 ^ k + a) := UInt64.toNat_inj.mp (by rw [UInt64.toNat_or, u_tn (by omega), u_tn (by omega), u_tn h, h1])
  have h2 := congrArg UInt64.toInt64 h3
  exact h2
theorem g_or' {k p a b : Nat} (hp : 2 ^ k = p) (ha : a < p) (h : a + b * p < 2 ^ 64) : lN a ||| lN (b * p) = lN (a + b * p) := by
  rw [Int64.or_comm, g_or hp ha (by omega), Nat.add_comm]
end
section
/-! ===== plain arithmetic of bits: A / 2 ^ i % 2 is bit i of A ===== -/
/-- what is put at 2 ^ c and above doesn't touch the bits below c -/
theorem bk_lo {A L c i : Nat} (h : i < c) : (A + L * 2 ^ c) / 2 ^ i % 2 = A / 2 ^ i % 2 := by
  obtain ⟨m, rfl⟩ : ∃ m, c = i + (m + 1) := ⟨c - i - 1, by omega⟩
  have e : L * 2 ^ (i + (m + 1)) = (L * 2 ^ m * 2) * 2 ^ i := by
    rw [Nat.pow_add, Nat.pow_succ, Nat.mul_comm (2 ^ i), ← Nat.mul_assoc, ← Nat.mul_assoc]
  rw [e, Nat.add_mul_div_right _ _ (Nat.two_pow_pos i), Nat.add_mul_mod_self_right]
/-- the bits from c on are those of what was put there -/
theorem bk_hi {A L c : Nat} (k : Nat) (h : A < 2 ^ c) : (A + L * 2 ^ c) / 2 ^ (c + k) % 2 = L / 2 ^ k % 2 := by
  rw [Nat.pow_add, ← Nat.div_div_eq_div_mul, Nat.add_mul_div_right _ _ (Nat.two_pow_pos c), Nat.div_eq_of_lt h, Nat.zero_add]
theorem bk_lt {A L c : Nat} (h : A < 2 ^ c) (hL : L < 256) : A + L * 2 ^ c < 2 ^ (c + 8) := by
  have h1 : L * 2 ^ c ≤ 255 * 2 ^ c := Nat.mul_le_mul_right _ (by omega)
  have h2 : 2 ^ (c + 8) = 2 ^ c * 256 := Nat.pow_add 2 c 8
  rw [h2]
  generalize L * 2 ^ c = m at h1 ⊢
  generalize 2 ^ c = p at h h1 ⊢
  omega
theorem bk_64 {A c : Nat} (h : A < 2 ^ c) (hc : c ≤ 64) : A < 2 ^ 64 := Nat.lt_of_lt_of_le h (Nat.pow_le_pow_right (by decide) hc)
theorem bk_mod {A n j : Nat} (h : j < n) : A % 2 ^ n / 2 ^ j % 2 = A / 2 ^ j % 2 := by
  have e := bk_lo (A := A % 2 ^ n) (L := A / 2 ^ n) h
  rw [← e, Nat.mul_comm (A / 2 ^ n), Nat.mod_add_div]
theorem bk_step {A n j : Nat} (h : j < n) : A % 2 ^ n / 2 ^ (j + 1) * 2 + A / 2 ^ j % 2 = A % 2 ^ n / 2 ^ j := by
  rw [← bk_mod h, Nat.pow_succ, ← Nat.div_div_eq_div_mul]
  exact Nat.div_add_mod' _ 2
theorem bk_div {A c n : Nat} (h : A < 2 ^ c) (hn : n ≤ c) : A / 2 ^ n < 2 ^ (c - n) := by
  rw [Nat.div_lt_iff_lt_mul (Nat.two_pow_pos n), ← Nat.pow_add, Nat.sub_add_cancel hn]
  exact h
/-! ===== the machine's words ===== -/
theorem bk_low (x : Int32) : x.toInt64 &&& 255 = lN (x.toBitVec.toNat % 2 ^ 8) := by
  apply wb_inj
  rw [Int64.toBitVec_and, wb_tb]
  show (x.toBitVec.signExtend 64) &&& 255#64 = _
  apply BitVec.eq_of_toNat_eq
  rw [BitVec.toNat_and, show (255#64).toNat = 2 ^ 8 - 1 from by decide, Nat.and_two_pow_sub_one_eq_mod, BitVec.toNat_signExtend, BitVec.toNat_ofNat, BitVec.toNat_setWidth]
  have hx := x.toBitVec.isLt
  generalize x.toBitVec.toNat = m at hx ⊢
  split <;> omega
theorem bk_d : ∀ d, d < 2 → vp_nar .byte ((nI d).toInt8.toInt32) = nI d := by
  intro d hd
  rw [pk_vb]
  revert d
  decide +kernel
theorem bk_bit (x : Int32) {k : Nat} (hk : k < 8) : (x >>> (nI k &&& 31)) &&& 1 = nI (x.toBitVec.toNat % 2 ^ 8 / 2 ^ k % 2) := by
  rw [pk_and _ 1 (by decide)]
  refine congrArg nI ?_
  have h : bt (x >>> (nI k &&& 31)) 0 = bt x k := by
    rw [b_sshr k (by omega) x (by decide), if_pos (by omega), Nat.add_zero]
  have h' : (x >>> (nI k &&& 31)).toBitVec.toNat.testBit 0 = x.toBitVec.toNat.testBit k := h
  have e := Nat.toNat_testBit (x >>> (nI k &&& 31)).toBitVec.toNat 0
  rw [h', Nat.toNat_testBit, Nat.pow_zero, Nat.div_one] at e
  rw [bk_mod hk, Nat.pow_one]
  exact e.symm
theorem bk_byte (x : Int32) {k : Nat} (hk : k < 8) : vp_nar .byte (((x >>> (nI k &&& 31)) &&& 1).toInt8.toInt32) = nI (x.toBitVec.toNat % 2 ^ 8 / 2 ^ k % 2) := by
  rw [bk_bit x hk]
  exact bk_d _ (Nat.mod_lt _ (by decide))
theorem bk_or {A L c : Nat} (h : A < 2 ^ c) (hc : c ≤ 56) (hL : L < 256) : lN A ||| (lN L <<< ((nI c).toInt64 &&& 63)) = lN (A + L * 2 ^ c) := by
  rw [wb_shl L (by omega)]
  exact g_or' rfl h (bk_64 (bk_lt h hL) (by omega))
theorem bk_mask {n : Nat} (hn : n < 64) : ((1 : Int64) <<< ((nI n).toInt64 &&& 63)) - 1 = lN (2 ^ n - 1) := by
  have e : (1 : Int64) <<< ((nI n).toInt64 &&& 63) = lN (1 * 2 ^ n) := wb_shl 1 hn
  rw [e, Nat.one_mul]
  exact lN_sub (b := 1) (Nat.two_pow_pos n)
theorem bk_ix {h i : Nat} (hh : h < 64) (hi : i < 128) : (nI h + nI i) &&& 63 = nI ((h + i) % 64) := by
  rw [nI_add]
  exact pk_andN (by omega) 6 (by decide)
theorem bk_ixIn (m : Nat) : vp_in (nI (m % 64)) 64 := vp_in_nI (Nat.mod_lt _ (by decide)) (by decide)
theorem bk_ixCl (m : Nat) : (nI (m % 64)).toNatClampNeg = m % 64 := nI_clamp (by omega)
/-! ===== the relation: A is the number of the waiting bits, c their count, h the ring's head ===== -/
def bk_B (A h c : Nat) (b : Nat → Int32) : Prop := ∀ i, i < c → b ((h + i) % 64) = nI (A / 2 ^ i % 2)
theorem bk_B0 {A L h c : Nat} {b : Nat → Int32} (H : bk_B A h c b) : bk_B (A + L * 2 ^ c) h c b := by
  intro i hi
  rw [bk_lo hi]
  exact H i hi
theorem bk_Bput {A h m : Nat} {b : Nat → Int32} {x : Int32} (H : bk_B A h m b) (hm : m < 64) (hx : x = nI (A / 2 ^ m % 2)) : bk_B A h (m + 1) (upd b ((h + m) % 64) x) := by
  intro i hi
  by_cases e : i = m
  · subst e
    rw [pk_us]
    exact hx
  · rw [pk_un (by omega)]
    exact H i (by omega)
theorem bk_Bdrop {A h c n : Nat} {b : Nat → Int32} (H : bk_B A h c b) (hn : n ≤ c) : bk_B (A / 2 ^ n) ((h + n) % 64) (c - n) b := by
  intro i hi
  have e : ((h + n) % 64 + i) % 64 = (h + (n + i)) % 64 := by omega
  rw [e, H (n + i) (by omega), Nat.pow_add, Nat.div_div_eq_div_mul]
end
section
/-- both count c bits; X holds them as the number A, Y holds bit i of A at place h + i of its ring -/
def i_Rel (_ : Nat) (u : SX) (v : SY) : Prop := ∃ (A c h : Nat) (b : Nat → Int32), u = (lN A, nI c) ∧ v = (nI h, nI c, b) ∧ c ≤ 64 ∧ h < 64 ∧ A < 2 ^ c ∧ bk_B A h c b
theorem i_up {k : Nat} {u : SX} {v : SY} (h : i_Rel k u v) : i_Rel (k + 2) u v := h
theorem i_vc0 : wpX_init (fun u => wpY_init (fun v => i_Rel 0 u v)) :=
  ⟨0, 0, 0, fun _ => 0, rfl, rfl, by decide, by decide, by decide, fun i hi => absurd hi (Nat.not_lt_zero i)⟩
/-! ===== feed ===== -/
theorem bk_xfeed {A c : Nat} (x : Int32) (hA : A < 2 ^ c) (hc : c ≤ 56) (post : Int32 → SX → Prop) (hp : post (nI (c + 8)) (lN (A + x.toBitVec.toNat % 2 ^ 8 * 2 ^ c), nI (c + 8))) : wpX_feed post (lN A, nI c) x := by
  have h : nI c ≤ 56 := nI_le (b := 56) hc (by decide)
  have e8 : nI c + 8 = nI (c + 8) := nI_add c 8
  exact br_t h (nm_r (bk_low x) (nm_r (bk_or hA hc (Nat.mod_lt _ (by decide))) (nm_r e8 hp)))
theorem bk_yfeed {A c h : Nat} (x : Int32) (hA : A < 2 ^ c) (hc : c ≤ 56) (hh : h < 64) (post : Int32 → SY → Prop)
    (hp : ∀ b, bk_B (A + x.toBitVec.toNat % 2 ^ 8 * 2 ^ c) h (c + 8) b → post (nI (c + 8)) (nI h, nI (c + 8), b)) :
    ∀ (d k : Nat) (b : Nat → Int32), k + d = 8 → bk_B (A + x.toBitVec.toNat % 2 ^ 8 * 2 ^ c) h (c + k) b → wY_feed_13 post x (nI h) (nI c) (d + 1) (nI k) b := by
  have e8 : nI c + 8 = nI (c + 8) := nI_add c 8
  intro d
  induction d with
  | zero =>
    intro k b hk H
    obtain rfl : k = 8 := by omega
    have h8 : (8 : Int32) ≤ nI 8 := by decide
    refine br_t h8 (nm_r e8 ?_)
    rw [e8]
    exact hp b H
  | succ d ih =>
    intro k b hk H
    have h8 : ¬ (8 : Int32) ≤ nI k := nI_ge (b := 8) (by omega) (by decide)
    have ei : ((nI h + nI c) + nI k) &&& 63 = nI ((h + (c + k)) % 64) := by
      rw [Int32.add_assoc, nI_add c k]
      exact bk_ix hh (by omega)
    refine br_f h8 ⟨?_, nm_r (e' := upd b ((h + (c + k)) % 64) (nI (x.toBitVec.toNat % 2 ^ 8 / 2 ^ k % 2))) ?_ (nm_r (nI_1 k) (ih (k + 1) _ (by omega) ?_))⟩
    · rw [ei]
      exact bk_ixIn _
    · rw [ei, bk_ixCl, bk_byte x (by omega)]
    · exact bk_Bput (m := c + k) H (by omega) (by rw [bk_hi k hA])
theorem i_vc_feed {k : Nat} {u : SX} {v : SY} (I : i_Rel k u v) (hk : k + 2 ≤ 1024) (v1 : Int32) : wpX_feed (fun r u' => wpY_feed (fun r' v' => r' = r ∧ i_Rel (k + 2) u' v') v v1) u v1 := by
  obtain ⟨A, c, h, b, rfl, rfl, hc, hh, hA, H⟩ := I
  by_cases h56 : c ≤ 56
  · have hb : nI c ≤ 56 := nI_le (b := 56) h56 (by decide)
    refine bk_xfeed v1 hA h56 _ ?_
    refine br_t hb ⟨9, ?_⟩
    exact bk_yfeed v1 hA h56 hh _ (fun b' H' => ⟨rfl, _, _, _, b', rfl, rfl, by omega, hh, bk_lt hA (Nat.mod_lt _ (by decide)), H'⟩) 8 0 b rfl (bk_B0 H)
  · have hb : ¬ nI c ≤ 56 := nI_ge (a := 56) (by omega) (by omega)
    exact br_f hb (br_f hb ⟨rfl, A, c, h, b, rfl, rfl, hc, hh, hA, H⟩)
/-! ===== peek ===== -/
theorem bk_xpeek {A c n : Nat} (hA : A < 2 ^ c) (hc : c ≤ 64) (hn : n ≤ c) (post : Int64 → Prop) (hp : post (lN (A % 2 ^ n))) : wpX_peek post (lN A, nI c) (nI n) := by
  refine br_f (nI_pos (by omega)) (br_t (nI_le hn (by omega)) ?_)
  refine pk_eq n 0 (fun e => ?_) (fun e => ?_)
  · subst e
    rw [Nat.pow_zero, Nat.mod_one] at hp
    exact hp
  · refine pk_lt n 64 (fun l => ?_) (fun l => ?_)
    · refine nm_r (bk_mask l) ?_
      rw [wb_mask (bk_64 hA hc) l]
      exact hp
    · obtain rfl : n = 64 := by omega
      rw [Nat.mod_eq_of_lt (bk_64 hA hc)] at hp
      exact hp
theorem bk_ypeek {A c h n : Nat} {b : Nat → Int32} (hc : c ≤ 64) (hh : h < 64) (H : bk_B A h c b) (hn : n ≤ c) (post : Int64 → Prop) (hp : post (lN (A % 2 ^ n))) :
    ∀ j : Nat, j ≤ n → wY_peek_23 post (nI h) (nI c) b (j + 1) (lN (A % 2 ^ n / 2 ^ j)) (nI j - 1) := by
  intro j
  induction j with
  | zero =>
    intro _
    have h0 : nI 0 - 1 < 0 := by decide
    refine br_t h0 ?_
    rw [Nat.pow_zero, Nat.div_one]
    exact hp
  | succ j ih =>
    intro hj
    have ei : (nI h + nI j) &&& 63 = nI ((h + j) % 64) := bk_ix hh (by omega)
    rw [nI_pred]
    refine br_f (nI_pos (by omega)) ⟨?_, nm_r (e' := lN (A % 2 ^ n / 2 ^ j)) ?_ (nm_r (e' := nI j - 1) (Int32.sub_eq_add_neg _ _).symm (ih (by omega)))⟩
    · rw [ei]
      exact bk_ixIn _
    · rw [ei, bk_ixCl, H j (by omega), nI_l (by omega), show (2 : Int64) = lN 2 from rfl, lN_mul, lN_add, bk_step (by omega)]
theorem i_vc_peek {k : Nat} {u : SX} {v : SY} (I : i_Rel k u v) (hk : k + 2 ≤ 1024) (v1 : Int32) : wpX_peek (fun r => wpY_peek (fun r' => r' = r ∧ i_Rel (k + 2) u v) v v1) u v1 := by
  have I' : i_Rel (k + 2) u v := i_up I
  obtain ⟨A, c, h, b, eu, ev, hc, hh, hA, H⟩ := I
  by_cases h0 : v1 < 0
  · rw [eu, ev] at I' ⊢
    exact br_t h0 (br_t h0 ⟨rfl, I'⟩)
  · obtain ⟨n, hn, rfl⟩ := nI_of h0
    rw [eu, ev] at I' ⊢
    by_cases hnc : n ≤ c
    · refine bk_xpeek hA hc hnc _ ?_
      refine br_f h0 (br_t (nI_le hnc (by omega)) (nm_e ⟨n + 1, ?_⟩))
      have K := bk_ypeek hc hh H hnc (fun r' => r' = lN (A % 2 ^ n) ∧ i_Rel (k + 2) (lN A, nI c) (nI h, nI c, b)) ⟨rfl, I'⟩ n (Nat.le_refl n)
      rw [Nat.div_eq_of_lt (Nat.mod_lt _ (Nat.two_pow_pos n))] at K
      exact K
    · have hb : ¬ nI n ≤ nI c := nI_ge (by omega) hn
      exact br_f h0 (br_f hb (br_f h0 (br_f hb ⟨rfl, I'⟩)))
/-! ===== drop ===== -/
theorem bk_xdrop {A c n : Nat} (hA : A < 2 ^ c) (hc : c ≤ 64) (hn : n ≤ c) (post : Int32 → SX → Prop) (hp : post (nI (c - n)) (lN (A / 2 ^ n), nI (c - n))) : wpX_drop post (lN A, nI c) (nI n) := by
  refine br_t (nI_pos' (by omega)) (br_t (nI_le hn (by omega)) ?_)
  refine pk_lt n 64 (fun l => ?_) (fun l => ?_)
  · exact nm_r (wb_shr (bk_64 hA hc) l) (nm_r (pk_sub hn) hp)
  · obtain rfl : n = 64 := by omega
    rw [Nat.div_eq_of_lt (bk_64 hA hc)] at hp
    exact nm_r (pk_sub hn) hp
theorem i_vc_drop {k : Nat} {u : SX} {v : SY} (I : i_Rel k u v) (hk : k + 2 ≤ 1024) (v1 : Int32) : wpX_drop (fun r u' => wpY_drop (fun r' v' => r' = r ∧ i_Rel (k + 2) u' v') v v1) u v1 := by
  have I' : i_Rel (k + 2) u v := i_up I
  obtain ⟨A, c, h, b, eu, ev, hc, hh, hA, H⟩ := I
  rw [eu, ev] at I' ⊢
  by_cases h0 : v1 < 0
  · have h0' : ¬ 0 ≤ v1 := Int32.not_le.mpr h0
    exact br_f h0' (br_f h0' ⟨rfl, I'⟩)
  · have h0' : 0 ≤ v1 := Int32.not_lt.mp h0
    obtain ⟨n, hn, rfl⟩ := nI_of h0
    by_cases hnc : n ≤ c
    · refine bk_xdrop hA hc hnc _ ?_
      have hb : nI n ≤ nI c := nI_le hnc (by omega)
      refine br_t h0' (br_t hb (nm_r (bk_ix hh (by omega)) (nm_r (pk_sub hnc) ?_)))
      rw [pk_sub hnc]
      exact ⟨rfl, A / 2 ^ n, c - n, (h + n) % 64, b, rfl, rfl, by omega, by omega, bk_div hA hnc, bk_Bdrop H hnc⟩
    · have hb : ¬ nI n ≤ nI c := nI_ge (by omega) hn
      exact br_t h0' (br_f hb (br_t h0' (br_f hb ⟨rfl, I'⟩)))
end
