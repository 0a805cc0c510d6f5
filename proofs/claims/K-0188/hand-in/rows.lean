section
/-! rows pasted from the kit (rows/PURE-ROWS, rows/BITS): stores, casts, shifts, masks -/
theorem pk_us {f : Nat → Int32} {k : Nat} {x : Int32} : upd f k x k = x := if_pos rfl
theorem pk_un {f : Nat → Int32} {k j : Nat} {x : Int32} (h : j ≠ k) : upd f k x j = f j := if_neg h
theorem pk_ix (x : Int32) {n : Nat} (hn : n < 2 ^ 31) : x < 0 ∨ nI n ≤ x ∨ ∃ j : Nat, j < n ∧ x = nI j := by
  by_cases h : x < 0
  · exact Or.inl h
  · obtain ⟨j, hj, rfl⟩ := nI_of h
    by_cases h2 : j < n
    · exact Or.inr (Or.inr ⟨j, h2, rfl⟩)
    · exact Or.inr (Or.inl (nI_le (by omega) hj))
theorem pk_tn {n : Nat} (h : n < 2 ^ 32) : (nI n).toBitVec.toNat = n := Nat.mod_eq_of_lt h
theorem pk_shl (a s : Int32) (k : Nat) (hs : (s.toBitVec.smod 32).toNat = k) : (a <<< s).toBitVec.toNat = a.toBitVec.toNat * 2 ^ k % 2 ^ 32 := by
  show (a.toBitVec <<< (s.toBitVec.smod 32).toNat).toNat = _
  rw [hs, BitVec.toNat_shiftLeft, Nat.shiftLeft_eq]
theorem pk_shlN {n : Nat} (s : Int32) (k : Nat) (hs : (s.toBitVec.smod 32).toNat = k) (h : n * 2 ^ k < 2 ^ 32) : nI n <<< s = nI (n * 2 ^ k) := by
  apply Int32.toBitVec_inj.mp
  apply BitVec.eq_of_toNat_eq
  have hn : n < 2 ^ 32 := Nat.lt_of_le_of_lt (Nat.le_mul_of_pos_right n (Nat.two_pow_pos k)) h
  rw [pk_shl _ _ k hs, pk_tn hn, pk_tn h, Nat.mod_eq_of_lt h]
theorem pk_charN {q : Nat} (hq : q < 65536) : narrow .char (.int (nI q)) = .int (nI q) ∧ fits .char (.int (nI q)) = true := by
  constructor
  · have e : (nI q).toUInt32.toUInt16.toUInt32.toInt32 = nI q := by
      apply Int32.toBitVec_inj.mp
      apply BitVec.eq_of_toNat_eq
      show (nI q).toUInt32.toUInt16.toUInt32.toNat = q % 2 ^ 32
      rw [UInt16.toNat_toUInt32, UInt32.toNat_toUInt16, show (nI q).toUInt32.toNat = q % 2 ^ 32 from rfl]
      omega
    exact congrArg Value.int e
  · have a : (0 : Int32) ≤ nI q := nI_pos' (by omega)
    have b : nI q ≤ 65535 := nI_le (b := 65535) (by omega) (by decide)
    show (decide ((0 : Int32) ≤ nI q) && decide (nI q ≤ 65535)) = true
    rw [decide_eq_true a, decide_eq_true b]
    rfl
theorem pk_char (x : Int32) : (x.toUInt32 % 65536).toInt32 = nI (x.toBitVec.toNat % 65536) := by
  apply Int32.toBitVec_inj.mp
  apply BitVec.eq_of_toNat_eq
  rw [pk_tn (by omega)]
  show (x.toUInt32 % 65536).toNat = _
  rw [UInt32.toNat_mod]
  rfl
theorem em_w (v : Int32) : ∃ w : Nat, w < 65536 ∧ (v.toUInt32 % 65536).toInt32 = nI w ∧ v &&& 65535 = nI w := by
  have hr := lw_u16_r v
  have h0 : (0 : Int32).toInt = 0 := by decide
  obtain ⟨w, h1, h2⟩ := nI_of (x := lw_u16 v) (by rw [Int32.lt_iff_toInt_lt]; omega)
  have h3 : (v.toUInt32 % 65536).toInt32 = nI w := h2
  rw [h2, nI_toInt h1] at hr
  exact ⟨w, by omega, h3, by rw [← lg_i2c_mask, ← lg_i2c_nf, h3]⟩
theorem wb_tb (n : Nat) : (lN n).toBitVec = BitVec.ofNat 64 n := rfl
theorem wb_inj {a b : Int64} (h : a.toBitVec = b.toBitVec) : a = b := Int64.toBitVec_inj.mp h
theorem wb_tn {n : Nat} (h : n < 2 ^ 64) : (lN n).toBitVec.toNat = n := by rw [wb_tb, BitVec.toNat_ofNat, Nat.mod_eq_of_lt h]
theorem wb_cu : ∀ k, k < 64 → ((nI k).toInt64.toUInt64 &&& Int64.toUInt64 63) = UInt64.ofNat k := by decide +kernel
theorem wb_lt2 {a b : Nat} (h : a < b) : 2 ^ a < 2 ^ b := Nat.pow_lt_pow_right (by decide) h
theorem wb_shr {n k : Nat} (hn : n < 2 ^ 64) (hk : k < 64) : ((lN n).toUInt64 >>> ((nI k).toInt64.toUInt64 &&& Int64.toUInt64 63)).toInt64 = lN (n / 2 ^ k) := by
  rw [wb_cu k hk]
  apply wb_inj
  apply BitVec.eq_of_toNat_eq
  show ((lN n).toUInt64 >>> UInt64.ofNat k).toNat = (BitVec.ofNat 64 _).toNat
  have h1 : (UInt64.ofNat k).toNat = k := by
    show (BitVec.ofNat 64 k).toNat = k
    rw [BitVec.toNat_ofNat, Nat.mod_eq_of_lt (by omega)]
  have h2 : (lN n).toUInt64.toNat = n := wb_tn hn
  rw [UInt64.toNat_shiftRight, h1, h2, Nat.mod_eq_of_lt hk, Nat.shiftRight_eq_div_pow, BitVec.toNat_ofNat, Nat.mod_eq_of_lt (Nat.lt_of_le_of_lt (Nat.div_le_self _ _) hn)]
theorem wb_and {a b : Nat} (ha : a < 2 ^ 64) (hb : b < 2 ^ 64) : lN a &&& lN b = lN (a &&& b) := by
  apply wb_inj
  rw [Int64.toBitVec_and, wb_tb, wb_tb, wb_tb]
  apply BitVec.eq_of_toNat_eq
  rw [BitVec.toNat_and, BitVec.toNat_ofNat, BitVec.toNat_ofNat, BitVec.toNat_ofNat, Nat.mod_eq_of_lt ha, Nat.mod_eq_of_lt hb, Nat.mod_eq_of_lt (Nat.and_lt_two_pow _ hb)]
theorem wb_mask {n k : Nat} (hn : n < 2 ^ 64) (hk : k < 64) : lN n &&& lN (2 ^ k - 1) = lN (n % 2 ^ k) := by
  rw [wb_and hn (by have := wb_lt2 hk; omega), Nat.and_two_pow_sub_one_eq_mod]
end
section
/-! the numbers: a long below 2^64 as lN N, a char as nI m; the accumulator T as its three words -/
theorem cc_and {N : Nat} (h : N < 2 ^ 64) : lN N &&& 65535 = lN (N % 65536) := wb_mask (k := 16) h (by decide)
theorem cc_shr {N : Nat} (h : N < 2 ^ 64) : ((lN N).toUInt64 >>> ((16 : Int32).toInt64.toUInt64 &&& Int64.toUInt64 63)).toInt64 = lN (N / 65536) := wb_shr (k := 16) h (by decide)
theorem cc_chr {N : Nat} (h : N < 2 ^ 64) : (((lN N &&& 65535).toInt32).toUInt32 % 65536).toInt32 = nI (N % 65536) := by
  rw [cc_and h, lN_i, pk_char, pk_tn (by omega), Nat.mod_mod]
theorem cc_nar {w : Nat} (h : w < 65536) : vp_nar .char (nI w) = nI w := Value.int.inj (pk_charN h).1
/-- the array holds chars -/
def cc_ok (a : Nat → Int32) : Prop := ∀ i, ∃ m : Nat, m < 65536 ∧ a i = nI m
theorem cc_ok0 : cc_ok (fun _ => 0) := fun _ => ⟨0, by decide, rfl⟩
theorem cc_upd {a : Nat → Int32} {j w : Nat} (ha : cc_ok a) (hw : w < 65536) : cc_ok (upd a j (nI w)) := by
  intro i
  by_cases e : i = j
  · exact ⟨w, hw, by rw [e, pk_us]⟩
  · obtain ⟨m, hm, em⟩ := ha i
    exact ⟨m, hm, by rw [pk_un e, em]⟩
theorem cc_mul {m w : Nat} (hm : m < 65536) (hw : w < 65536) : m * w < 4294967296 := by
  have h : m * w ≤ 65535 * 65535 := Nat.mul_le_mul (by omega) (by omega)
  omega
/-- one step of the reckoning, in naturals: the three words of T + P -/
theorem cc_n0 (T P : Nat) : (T % 65536 + P % 65536) % 65536 = (T + P) % 65536 := by omega
theorem cc_n1 (T P : Nat) : (T / 65536 % 65536 + P / 65536 % 65536 + (T % 65536 + P % 65536) / 65536) % 65536 = (T + P) / 65536 % 65536 := by omega
theorem cc_n2a {U V c : Nat} (hV : V < 65536) (h : U + V + c < 4294967296) : (U / 65536 + (U % 65536 + V % 65536 + c) / 65536) % 65536 = (U + V + c) / 65536 := by omega
theorem cc_n2b (T P : Nat) : (T + P) / 65536 = T / 65536 + P / 65536 + (T % 65536 + P % 65536) / 65536 := by omega
theorem cc_n2c (T : Nat) : T / 4294967296 = T / 65536 / 65536 := by omega
theorem cc_n2 {T P : Nat} (hP : P < 4294967296) (hT : T + P < 281474976710656) : (T / 4294967296 + (T / 65536 % 65536 + P / 65536 % 65536 + (T % 65536 + P % 65536) / 65536) / 65536) % 65536 = (T + P) / 4294967296 := by
  have hb := cc_n2b T P
  rw [cc_n2c (T + P), hb, cc_n2c T]
  exact cc_n2a (by omega) (by omega)
theorem cc_pend {T : Nat} (hT : T < 4294967296) : (lN T).toInt32 = nI (T % 65536) + (nI (T / 65536 % 65536) <<< ((16 : Int32) &&& 31)) := by
  rw [lN_i, pk_shlN _ 16 (by decide) (by omega), nI_add]
  exact congrArg nI (by omega)
end
section
/-! column: both loops in lockstep; X's state is the three words of T, Y's is T -/
theorem cc_prod {a b : Nat → Int32} {i j m w : Nat} (hi : i < 3) (hj : j < 3) (hm : m < 65536) (hw : w < 65536) (ea : a i = nI m) (eb : b j = nI w) : ((a (nI i).toNatClampNeg).toInt64) * ((b (nI j).toNatClampNeg).toInt64) = lN (m * w) := by
  rw [nI_clamp (by omega), nI_clamp (by omega), ea, eb, nI_l (by omega), nI_l (by omega), lN_mul]
theorem cc_stepX {post : Int32 → SX → Prop} {x1 : Int32} {a b : Nat → Int32} {n i j T P : Nat} (hi : i < 3) (hj : j < 3) (hP : P < 4294967296) (e0 : ((a (nI i).toNatClampNeg).toInt64) * ((b (nI j).toNatClampNeg).toInt64) = lN P) (ex : x1 - nI i = nI j) (hT : T + P < 281474976710656)
    (h : wX_column_11 post x1 a b n (nI (i + 1)) (nI ((T + P) % 65536)) (nI ((T + P) / 65536 % 65536)) (nI ((T + P) / 4294967296))) :
    wX_column_11 post x1 a b (n + 1) (nI i) (nI (T % 65536)) (nI (T / 65536 % 65536)) (nI (T / 4294967296)) := by
  have e1 : (nI (T % 65536)).toInt64 + (lN P &&& 65535) = lN (T % 65536 + P % 65536) := by
    rw [nI_l (by omega), cc_and (by omega), lN_add]
  have e2 : (((lN (T % 65536 + P % 65536) &&& 65535).toInt32).toUInt32 % 65536).toInt32 = nI ((T + P) % 65536) := by
    rw [cc_chr (by omega), cc_n0]
  have e3 : ((nI (T / 65536 % 65536)).toInt64 + ((((lN P).toUInt64 >>> ((16 : Int32).toInt64.toUInt64 &&& Int64.toUInt64 63)).toInt64) &&& 65535)) + (((lN (T % 65536 + P % 65536)).toUInt64 >>> ((16 : Int32).toInt64.toUInt64 &&& Int64.toUInt64 63)).toInt64) = lN (T / 65536 % 65536 + P / 65536 % 65536 + (T % 65536 + P % 65536) / 65536) := by
    rw [nI_l (by omega), cc_shr (by omega), cc_shr (by omega), cc_and (by omega), lN_add, lN_add]
  have e4 : (((lN (T / 65536 % 65536 + P / 65536 % 65536 + (T % 65536 + P % 65536) / 65536) &&& 65535).toInt32).toUInt32 % 65536).toInt32 = nI ((T + P) / 65536 % 65536) := by
    rw [cc_chr (by omega), cc_n1]
  have e5 : (nI (T / 4294967296)).toInt64 + (((lN (T / 65536 % 65536 + P / 65536 % 65536 + (T % 65536 + P % 65536) / 65536)).toUInt64 >>> ((16 : Int32).toInt64.toUInt64 &&& Int64.toUInt64 63)).toInt64) = lN (T / 4294967296 + (T / 65536 % 65536 + P / 65536 % 65536 + (T % 65536 + P % 65536) / 65536) / 65536) := by
    rw [nI_l (by omega), cc_shr (by omega), lN_add]
  have e6 : (((lN (T / 4294967296 + (T / 65536 % 65536 + P / 65536 % 65536 + (T % 65536 + P % 65536) / 65536) / 65536) &&& 65535).toInt32).toUInt32 % 65536).toInt32 = nI ((T + P) / 4294967296) := by
    rw [cc_chr (by omega), cc_n2 hP hT]
  have g0 := pk_charN (q := (T + P) % 65536) (by omega)
  have g1 := pk_charN (q := (T + P) / 65536 % 65536) (by omega)
  have g2 := pk_charN (q := (T + P) / 4294967296) (by omega)
  have h2 : ¬ (2 : Int32) < nI i := nI_nlt (a := 2) (b := i) (by omega) (by decide)
  have h0 : ¬ nI j < 0 := nI_pos (by omega)
  have hj2 : ¬ (2 : Int32) < nI j := nI_nlt (a := 2) (b := j) (by omega) (by decide)
  exact br_f h2 (nm_r ex (br_f h0 (br_f hj2 ⟨vp_in_nI hi (by decide), vp_in_nI hj (by decide), nm_r e0 (nm_r e1 (nm_r e2 ⟨g0.1, g0.2, nm_r e3 (nm_r e4 ⟨g1.1, g1.2, nm_r e5 (nm_r e6 ⟨g2.1, g2.2, nm_r (nI_1 i) h⟩)⟩)⟩))⟩)))
theorem cc_stepY {post : Int32 → SY → Prop} {x1 : Int32} {a b : Nat → Int32} {n i j T P : Nat} (hi : i < 3) (hj : j < 3) (e0 : ((a (nI i).toNatClampNeg).toInt64) * ((b (nI j).toNatClampNeg).toInt64) = lN P) (ex : x1 - nI i = nI j)
    (h : wY_column_2 post x1 a b n (nI (i + 1)) (lN (T + P))) : wY_column_2 post x1 a b (n + 1) (nI i) (lN T) := by
  have e1 : lN T + ((a (nI i).toNatClampNeg).toInt64) * ((b (nI j).toNatClampNeg).toInt64) = lN (T + P) := by
    rw [e0, lN_add]
  have h2 : ¬ (2 : Int32) < nI i := nI_nlt (a := 2) (b := i) (by omega) (by decide)
  have h0 : ¬ nI j < 0 := nI_pos (by omega)
  have hj2 : ¬ (2 : Int32) < nI j := nI_nlt (a := 2) (b := j) (by omega) (by decide)
  exact br_f h2 (nm_r ex (br_f h0 (br_f hj2 ⟨vp_in_nI hi (by decide), vp_in_nI hj (by decide), nm_r e1 (nm_r (nI_1 i) h)⟩)))
theorem cc_hi {x : Int32} (h : nI 3 ≤ x) : ¬ x < 0 ∧ (2 : Int32) < x := by
  rw [Int32.le_iff_toInt_le, nI_toInt (by decide)] at h
  rw [Int32.lt_iff_toInt_lt, Int32.lt_iff_toInt_lt, show (0 : Int32).toInt = 0 from by decide, show (2 : Int32).toInt = 2 from by decide]
  omega
theorem cc_skipX {post : Int32 → SX → Prop} {x1 : Int32} {a b : Nat → Int32} {n i : Nat} {p q r : Int32} (hi : i < 3) (hx : x1 - nI i < 0 ∨ nI 3 ≤ x1 - nI i)
    (h : wX_column_11 post x1 a b n (nI (i + 1)) p q r) : wX_column_11 post x1 a b (n + 1) (nI i) p q r := by
  have h2 : ¬ (2 : Int32) < nI i := nI_nlt (a := 2) (b := i) (by omega) (by decide)
  rcases hx with z | z
  · exact br_f h2 (nm_e (br_t z (nm_r (nI_1 i) h)))
  · exact br_f h2 (nm_e (br_f (cc_hi z).1 (br_t (cc_hi z).2 (nm_r (nI_1 i) h))))
theorem cc_skipY {post : Int32 → SY → Prop} {x1 : Int32} {a b : Nat → Int32} {n i : Nat} {t : Int64} (hi : i < 3) (hx : x1 - nI i < 0 ∨ nI 3 ≤ x1 - nI i)
    (h : wY_column_2 post x1 a b n (nI (i + 1)) t) : wY_column_2 post x1 a b (n + 1) (nI i) t := by
  have h2 : ¬ (2 : Int32) < nI i := nI_nlt (a := 2) (b := i) (by omega) (by decide)
  rcases hx with z | z
  · exact br_f h2 (nm_e (br_t z (nm_r (nI_1 i) h)))
  · exact br_f h2 (nm_e (br_f (cc_hi z).1 (br_t (cc_hi z).2 (nm_r (nI_1 i) h))))
theorem cc_endX {post : Int32 → SX → Prop} {x1 : Int32} {a b : Nat → Int32} {n : Nat} {p q r : Int32} (h : wX_column_138 post p q r a b) : wX_column_11 post x1 a b (n + 1) (nI 3) p q r :=
  br_t (show (2 : Int32) < nI 3 from by decide) h
theorem cc_endY {post : Int32 → SY → Prop} {x1 : Int32} {a b : Nat → Int32} {n T : Nat} (hT : T < 281474976710656) (h : post (nI (T % 65536)) (lN (T / 65536), a, b)) : wY_column_2 post x1 a b (n + 1) (nI 3) (lN T) := by
  have e0 : (lN T &&& 65535).toInt32 = nI (T % 65536) := by rw [cc_and (by omega), lN_i]
  exact br_t (show (2 : Int32) < nI 3 from by decide) (nm_r e0 (nm_r (cc_shr (by omega)) h))
theorem cc_lock {x1 : Int32} {a b : Nat → Int32} (ha : cc_ok a) (hb : cc_ok b) : ∀ d i T : Nat, i + d = 3 → T < 4294967296 * (i + 1) → ∃ T' : Nat, T' < 281474976710656 ∧
    (∀ post : Int32 → SX → Prop, wX_column_138 post (nI (T' % 65536)) (nI (T' / 65536 % 65536)) (nI (T' / 4294967296)) a b → wX_column_11 post x1 a b (d + 1) (nI i) (nI (T % 65536)) (nI (T / 65536 % 65536)) (nI (T / 4294967296))) ∧
    (∀ post : Int32 → SY → Prop, post (nI (T' % 65536)) (lN (T' / 65536), a, b) → wY_column_2 post x1 a b (d + 1) (nI i) (lN T)) := by
  intro d
  induction d with
  | zero =>
    intro i T hi hT
    obtain rfl : i = 3 := by omega
    exact ⟨T, by omega, fun _ h => cc_endX h, fun _ h => cc_endY (by omega) h⟩
  | succ d ih =>
    intro i T hi hT
    have hs : ∀ _ : x1 - nI i < 0 ∨ nI 3 ≤ x1 - nI i, ∃ T' : Nat, T' < 281474976710656 ∧
        (∀ post : Int32 → SX → Prop, wX_column_138 post (nI (T' % 65536)) (nI (T' / 65536 % 65536)) (nI (T' / 4294967296)) a b → wX_column_11 post x1 a b (d + 1 + 1) (nI i) (nI (T % 65536)) (nI (T / 65536 % 65536)) (nI (T / 4294967296))) ∧
        (∀ post : Int32 → SY → Prop, post (nI (T' % 65536)) (lN (T' / 65536), a, b) → wY_column_2 post x1 a b (d + 1 + 1) (nI i) (lN T)) := by
      intro z
      obtain ⟨T', h1, hX, hY⟩ := ih (i + 1) T (by omega) (by omega)
      exact ⟨T', h1, fun post h => cc_skipX (by omega) z (hX post h), fun post h => cc_skipY (by omega) z (hY post h)⟩
    rcases pk_ix (x1 - nI i) (n := 3) (by decide) with z | z | ⟨j, hj, ex⟩
    · exact hs (Or.inl z)
    · exact hs (Or.inr z)
    · obtain ⟨m, hm, ea⟩ := ha i
      obtain ⟨w, hw, eb⟩ := hb j
      have hi3 : i < 3 := by omega
      have hP := cc_mul hm hw
      have e0 := cc_prod hi3 hj hm hw ea eb
      obtain ⟨T', h1, hX, hY⟩ := ih (i + 1) (T + m * w) (by omega) (by omega)
      exact ⟨T', h1, fun post h => cc_stepX hi3 hj hP e0 ex (by omega) (hX post h), fun post h => cc_stepY hi3 hj e0 ex (hY post h)⟩
/-- outside 0 .. 4 the reference adds nothing -/
theorem cc_out {x1 : Int32} (hx : x1 < 0 ∨ 4 < x1) {i : Nat} (hi : i < 3) : x1 - nI i < 0 ∨ nI 3 ≤ x1 - nI i := by
  rcases pk_ix (x1 - nI i) (n := 3) (by decide) with z | z | ⟨j, hj, ex⟩
  · exact Or.inl z
  · exact Or.inr z
  · have e : x1 = nI (j + i) := by rw [← nI_add, ← ex, Int32.sub_add_cancel]
    rcases hx with h | h
    · rw [e] at h
      exact absurd h (nI_pos (by omega))
    · rw [e] at h
      exact absurd h (nI_nlt (a := 4) (b := j + i) (by omega) (by decide))
theorem cc_outY {x1 : Int32} (hx : x1 < 0 ∨ 4 < x1) {a b : Nat → Int32} {T : Nat} (hT : T < 281474976710656) {post : Int32 → SY → Prop} (h : post (nI (T % 65536)) (lN (T / 65536), a, b)) : wY_column_2 post x1 a b 4 (nI 0) (lN T) :=
  cc_skipY (by decide) (cc_out hx (by decide)) (cc_skipY (by decide) (cc_out hx (by decide)) (cc_skipY (by decide) (cc_out hx (by decide)) (cc_endY hT h)))
end
section
/-- the accumulator T, below 2^32 between two calls, as the component's three words and as the reference's long; the two tables hold the same chars -/
def i_Rel (_ : Nat) (u : SX) (v : SY) : Prop := ∃ (T : Nat) (a b : Nat → Int32), (T < 4294967296 ∧ cc_ok a ∧ cc_ok b) ∧ u = (nI (T % 65536), nI (T / 65536 % 65536), nI (T / 4294967296), a, b) ∧ v = (lN T, a, b)
theorem i_up {k : Nat} {u : SX} {v : SY} (h : i_Rel k u v) : i_Rel (k + 4) u v := h
theorem i_vc0 : wpX_init (fun u => wpY_init (fun v => i_Rel 0 u v)) :=
  show i_Rel 0 (0, 0, 0, (fun _ => 0), (fun _ => 0)) (0, (fun _ => 0), (fun _ => 0)) from ⟨0, fun _ => 0, fun _ => 0, ⟨by decide, cc_ok0, cc_ok0⟩, rfl, rfl⟩
theorem i_vc_set {k : Nat} {u : SX} {v : SY} (I : i_Rel k u v) (hk : k + 4 ≤ 2048) (v1 : Int32) (v2 : Int32) (v3 : Int32) : wpX_set (fun r u' => wpY_set (fun r' v' => r' = r ∧ i_Rel (k + 4) u' v') v v1 v2 v3) u v1 v2 v3 := by
  obtain ⟨T, a, b, ⟨hT, ha, hb⟩, rfl, rfl⟩ := I
  have I' : i_Rel (k + 4) (nI (T % 65536), nI (T / 65536 % 65536), nI (T / 4294967296), a, b) (lN T, a, b) := ⟨T, a, b, ⟨hT, ha, hb⟩, rfl, rfl⟩
  by_cases h1 : v1 < 0
  · exact br_t h1 (br_t h1 ⟨rfl, I'⟩)
  by_cases h2 : 1 < v1
  · exact br_f h1 (br_t h2 (br_f h1 (br_t h2 ⟨rfl, I'⟩)))
  by_cases h3 : v2 < 0
  · exact br_f h1 (br_f h2 (br_t h3 (br_f h1 (br_f h2 (br_t h3 ⟨rfl, I'⟩)))))
  by_cases h4 : v2 ≤ 2
  · obtain ⟨j, hj, ej⟩ := nI_of2 (M := 2) (n := 2) (by decide) h3 h4
    have hi : vp_in v2 3 := by rw [ej]; exact vp_in_nI (by omega) (by decide)
    obtain ⟨w, hw, f1, f2⟩ := em_w v3
    have ex : ((v3 &&& 65535).toUInt32 % 65536).toInt32 = nI w := by
      rw [f2, pk_char, pk_tn (by omega), Nat.mod_eq_of_lt hw]
    have eX : ∀ c : Nat → Int32, upd c v2.toNatClampNeg (vp_nar .char (nI w)) = upd c j (nI w) := by
      intro c
      rw [ej, nI_clamp (by omega), cc_nar hw]
    have eY : ∀ c : Nat → Int32, upd c v2.toNatClampNeg (vp_nar .char ((v3.toUInt32 % 65536).toInt32)) = upd c j (nI w) := by
      intro c
      rw [f1, eX]
    by_cases h5 : v1 = 0
    · exact br_f h1 (br_f h2 (br_f h3 (br_t h4 (nm_r ex (br_t h5 ⟨hi, nm_r (eX a) (br_f h1 (br_f h2 (br_f h3 (br_t h4 (br_t h5 ⟨hi, nm_r (eY a) ⟨f1, T, upd a j (nI w), b, ⟨hT, cc_upd ha hw, hb⟩, rfl, rfl⟩⟩)))))⟩)))))
    · exact br_f h1 (br_f h2 (br_f h3 (br_t h4 (nm_r ex (br_f h5 ⟨hi, nm_r (eX b) (br_f h1 (br_f h2 (br_f h3 (br_t h4 (br_f h5 ⟨hi, nm_r (eY b) ⟨f1, T, a, upd b j (nI w), ⟨hT, ha, cc_upd hb hw⟩, rfl, rfl⟩⟩)))))⟩)))))
  · exact br_f h1 (br_f h2 (br_f h3 (br_f h4 (br_f h1 (br_f h2 (br_f h3 (br_f h4 ⟨rfl, I'⟩)))))))
theorem cc_fin {post : Int32 → SX → Prop} {a b : Nat → Int32} {T : Nat} (hT : T < 281474976710656) (h : post (nI (T % 65536)) (nI (T / 65536 % 65536), nI (T / 4294967296), 0, a, b)) : wX_column_138 post (nI (T % 65536)) (nI (T / 65536 % 65536)) (nI (T / 4294967296)) a b :=
  And.intro (pk_charN (by omega)).1 (And.intro (pk_charN (by omega)).2 (And.intro (pk_charN (by omega)).1 (And.intro (pk_charN (by omega)).2 h)))
theorem cc_rel {k T : Nat} {a b : Nat → Int32} (hT : T < 281474976710656) (ha : cc_ok a) (hb : cc_ok b) : i_Rel k (nI (T / 65536 % 65536), nI (T / 4294967296), 0, a, b) (lN (T / 65536), a, b) := by
  refine ⟨T / 65536, a, b, ⟨by omega, ha, hb⟩, ?_, rfl⟩
  rw [show T / 65536 / 65536 % 65536 = T / 4294967296 from by omega, show T / 65536 / 4294967296 = 0 from by omega, nI_0]
theorem i_vc_column {k : Nat} {u : SX} {v : SY} (I : i_Rel k u v) (hk : k + 4 ≤ 2048) (v1 : Int32) : wpX_column (fun r u' => wpY_column (fun r' v' => r' = r ∧ i_Rel (k + 4) u' v') v v1) u v1 := by
  obtain ⟨T, a, b, ⟨hT, ha, hb⟩, rfl, rfl⟩ := I
  have hT' : T < 281474976710656 := by omega
  by_cases h0 : v1 < 0
  · exact br_t h0 (cc_fin hT' (Exists.intro 4 (cc_outY (Or.inl h0) hT' ⟨rfl, cc_rel hT' ha hb⟩)))
  by_cases h4 : 4 < v1
  · exact br_f h0 (br_t h4 (cc_fin hT' (Exists.intro 4 (cc_outY (Or.inr h4) hT' ⟨rfl, cc_rel hT' ha hb⟩))))
  obtain ⟨T', h1, hX, hY⟩ := cc_lock (x1 := v1) ha hb 3 0 T rfl (by omega)
  exact br_f h0 (br_f h4 ⟨4, hX _ (cc_fin h1 (Exists.intro 4 (hY _ ⟨rfl, cc_rel h1 ha hb⟩)))⟩)
theorem i_vc_pending {k : Nat} {u : SX} {v : SY} (I : i_Rel k u v) (hk : k + 4 ≤ 2048) : wpX_pending (fun r => wpY_pending (fun r' => r' = r ∧ i_Rel (k + 4) u v) v) u := by
  obtain ⟨T, a, b, ⟨hT, ha, hb⟩, rfl, rfl⟩ := I
  exact And.intro (cc_pend hT) ⟨T, a, b, ⟨hT, ha, hb⟩, rfl, rfl⟩
end
