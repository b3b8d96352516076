section
/-! rows of kit/rows/PURE-ROWS, taken by pick.py: stores, nI arithmetic, masks, shifts, chars -/
theorem pk_us {f : Nat → Int32} {k : Nat} {x : Int32} : upd f k x k = x := if_pos rfl
theorem pk_un {f : Nat → Int32} {k j : Nat} {x : Int32} (h : j ≠ k) : upd f k x j = f j := if_neg h
theorem pk_sub {a b : Nat} (h : b ≤ a) : nI a - nI b = nI (a - b) := by
  obtain ⟨c, rfl⟩ : ∃ c, a = c + b := ⟨a - b, by omega⟩
  rw [← nI_add, Int32.add_sub_cancel, Nat.add_sub_cancel]
theorem pk_mul (a b : Nat) : nI a * nI b = nI (a * b) := (Int32.ofNat_mul a b).symm
theorem pk_div {a d : Nat} (ha : a < 2 ^ 31) (h0 : 0 < d) (hd : d < 2 ^ 31) : nI a / nI d = nI (a / d) := by
  apply Int32.toInt_inj.mp
  rw [lg_idiv_nonneg (by rw [nI_toInt ha]; omega) (by rw [nI_toInt hd]; omega), nI_toInt ha, nI_toInt hd, nI_toInt (Nat.lt_of_le_of_lt (Nat.div_le_self a d) ha)]
  first | rfl | exact (Int.natCast_ediv _ _).symm
theorem pk_rem {a d : Nat} (ha : a < 2 ^ 31) (h0 : 0 < d) (hd : d < 2 ^ 31) : nI a - nI a / nI d * nI d = nI (a % d) := by
  rw [pk_div ha h0 hd, pk_mul, pk_sub (Nat.div_mul_le_self a d)]
  exact congrArg nI (by have := Nat.div_add_mod' a d; omega)
theorem pk_tn {n : Nat} (h : n < 2 ^ 32) : (nI n).toBitVec.toNat = n := Nat.mod_eq_of_lt h
theorem pk_and (x : Int32) {m : Int32} (k : Nat) (hm : m.toBitVec.toNat = 2 ^ k - 1) : x &&& m = nI (x.toBitVec.toNat % 2 ^ k) := by
  apply Int32.toBitVec_inj.mp
  apply BitVec.eq_of_toNat_eq
  rw [Int32.toBitVec_and, BitVec.toNat_and, hm, Nat.and_two_pow_sub_one_eq_mod]
  show _ = (BitVec.ofNat 32 _).toNat
  rw [BitVec.toNat_ofNat]
  exact (Nat.mod_eq_of_lt (Nat.lt_of_le_of_lt (Nat.mod_le _ _) x.toBitVec.isLt)).symm
theorem pk_andN {n : Nat} (h : n < 2 ^ 32) {m : Int32} (k : Nat) (hm : m.toBitVec.toNat = 2 ^ k - 1) : nI n &&& m = nI (n % 2 ^ k) := by
  rw [pk_and _ k hm, pk_tn h]
theorem pk_shl (a s : Int32) (k : Nat) (hs : (s.toBitVec.smod 32).toNat = k) : (a <<< s).toBitVec.toNat = a.toBitVec.toNat * 2 ^ k % 2 ^ 32 := by
  show (a.toBitVec <<< (s.toBitVec.smod 32).toNat).toNat = _
  rw [hs, BitVec.toNat_shiftLeft, Nat.shiftLeft_eq]
theorem pk_shlN {n : Nat} (s : Int32) (k : Nat) (hs : (s.toBitVec.smod 32).toNat = k) (h : n * 2 ^ k < 2 ^ 32) : nI n <<< s = nI (n * 2 ^ k) := by
  apply Int32.toBitVec_inj.mp
  apply BitVec.eq_of_toNat_eq
  have hn : n < 2 ^ 32 := Nat.lt_of_le_of_lt (Nat.le_mul_of_pos_right n (Nat.two_pow_pos k)) h
  rw [pk_shl _ _ k hs, pk_tn hn, pk_tn h, Nat.mod_eq_of_lt h]
theorem pk_ushr (x s : Int32) (k : Nat) (hs : ((s.toUInt32 &&& Int32.toUInt32 31).toBitVec % 32).toNat = k) : (x.toUInt32 >>> (s.toUInt32 &&& Int32.toUInt32 31)).toInt32.toBitVec.toNat = x.toBitVec.toNat / 2 ^ k := by
  have e : (x.toUInt32 >>> (s.toUInt32 &&& Int32.toUInt32 31)).toInt32.toBitVec = x.toBitVec >>> k := by
    rw [← hs]
    exact UInt32.toBitVec_shiftRight _ _
  rw [e, BitVec.toNat_ushiftRight, Nat.shiftRight_eq_div_pow]
theorem pk_ushrN {n : Nat} (hn : n < 2 ^ 32) (s : Int32) (k : Nat) (hs : ((s.toUInt32 &&& Int32.toUInt32 31).toBitVec % 32).toNat = k) : ((nI n).toUInt32 >>> (s.toUInt32 &&& Int32.toUInt32 31)).toInt32 = nI (n / 2 ^ k) := by
  apply Int32.toBitVec_inj.mp
  apply BitVec.eq_of_toNat_eq
  rw [pk_ushr _ s k hs, pk_tn hn, pk_tn (Nat.lt_of_le_of_lt (Nat.div_le_self _ _) hn)]
theorem pk_charN {q : Nat} (hq : q < 65536) : narrow .char (.int (nI q)) = .int (nI q) ∧ fits .char (.int (nI q)) = true := by
  constructor
  · have e : (nI q).toUInt32.toUInt16.toUInt32.toInt32 = nI q := by
      apply Int32.toBitVec_inj.mp
      apply BitVec.eq_of_toNat_eq
      show (nI q).toUInt32.toUInt16.toUInt32.toNat = q % 2 ^ 32
      rw [UInt16.toNat_toUInt32, UInt32.toNat_toUInt16, show (nI q).toUInt32.toNat = q % 2 ^ 32 from rfl]
      omega
    exact congrArg Value.int e
  · have a : (0 : Int32) ≤ nI q := nI_pos' (by omega)
    have b : nI q ≤ 65535 := nI_le (b := 65535) (by omega) (by decide)
    show (decide ((0 : Int32) ≤ nI q) && decide (nI q ≤ 65535)) = true
    rw [decide_eq_true a, decide_eq_true b]
    rfl
theorem pk_char (x : Int32) : (x.toUInt32 % 65536).toInt32 = nI (x.toBitVec.toNat % 65536) := by
  apply Int32.toBitVec_inj.mp
  apply BitVec.eq_of_toNat_eq
  rw [pk_tn (by omega)]
  show (x.toUInt32 % 65536).toNat = _
  rw [UInt32.toNat_mod]
  rfl
end
section
/-! the plain law: one digit's step, five digits' sum; and what the bit terms of the program give on naturals -/
/-- a digit, with three added where it is at least five -/
def dd_adj (d : Nat) : Nat := if d < 5 then d else d + 3
/-- the digit behind the shift, c the carry that comes in -/
def dd_nx (d c : Nat) : Nat := (2 * dd_adj d + c) % 16
/-- the carry that goes out -/
def dd_co (d : Nat) : Nat := dd_adj d / 8 % 2
theorem dd_adj16 : ∀ d, d < 10 → dd_adj d < 16 := by decide +kernel
theorem dd_step : ∀ d, d < 10 → ∀ c, c < 2 → dd_nx d c < 10 ∧ dd_co d < 2 ∧ dd_nx d c + 10 * dd_co d = 2 * d + c := by decide +kernel
theorem dd_sum {d0 d1 d2 d3 d4 e0 e1 e2 e3 e4 c0 c1 c2 c3 c4 c5 : Nat} (p0 : e0 < 10) (p1 : e1 < 10) (p2 : e2 < 10) (p3 : e3 < 10) (p4 : e4 < 10)
    (s0 : e0 + 10 * c1 = 2 * d0 + c0) (s1 : e1 + 10 * c2 = 2 * d1 + c1) (s2 : e2 + 10 * c3 = 2 * d2 + c2) (s3 : e3 + 10 * c4 = 2 * d3 + c3) (s4 : e4 + 10 * c5 = 2 * d4 + c4) :
    ((d0 + 10 * d1 + 100 * d2 + 1000 * d3 + 10000 * d4) * 2 + c0) % 100000 = e0 + 10 * e1 + 100 * e2 + 1000 * e3 + 10000 * e4 := by
  have h : (d0 + 10 * d1 + 100 * d2 + 1000 * d3 + 10000 * d4) * 2 + c0 = (e0 + 10 * e1 + 100 * e2 + 1000 * e3 + 10000 * e4) + 100000 * c5 := by omega
  rw [h, Nat.add_mul_mod_self_left]
  exact Nat.mod_eq_of_lt (by omega)
/-! the array's cells -/
theorem dd_add3' : ∀ d, d < 10 → ¬ d < 5 → (nI d + 3).toInt8.toInt32.toInt8.toInt32 = nI (dd_adj d) := by decide +kernel
theorem dd_add3 {d : Nat} (h : d < 10) (h5 : ¬ d < 5) : vp_nar .byte ((nI d + 3).toInt8.toInt32) = nI (dd_adj d) := by
  rw [vp_nar_byte]
  exact dd_add3' d h h5
theorem dd_cell' : ∀ e, e < 16 → ∀ c, c < 2 → ((((nI e <<< ((1 : Int32) &&& 31)) ||| nI c) &&& 15).toInt8.toInt32).toInt8.toInt32 = nI ((2 * e + c) % 16) := by decide +kernel
theorem dd_cell {e c : Nat} (he : e < 16) (hc : c < 2) : vp_nar .byte ((((nI e <<< ((1 : Int32) &&& 31)) ||| nI c) &&& 15).toInt8.toInt32) = nI ((2 * e + c) % 16) := by
  rw [vp_nar_byte]
  exact dd_cell' e he c hc
theorem dd_out : ∀ e, e < 16 → (((nI e).toUInt32 >>> ((3 : Int32).toUInt32 &&& Int32.toUInt32 31)).toInt32) &&& 1 = nI (e / 8 % 2) := by decide +kernel
theorem dd_zero : vp_nar .byte 0 = nI 0 := by
  rw [vp_nar_byte]
  decide +kernel
/-! the sixteen bits -/
theorem dd_b16 {b : Nat} (hb : b < 65536) : nI b &&& 65535 = nI b := by
  rw [pk_andN (by omega) 16 (by decide +kernel)]
  exact congrArg nI (Nat.mod_eq_of_lt hb)
theorem dd_top {b : Nat} (hb : b < 65536) : ((nI b).toUInt32 >>> ((15 : Int32).toUInt32 &&& Int32.toUInt32 31)).toInt32 = nI (b / 32768) :=
  pk_ushrN (by omega) 15 15 (by decide +kernel)
theorem dd_top1 {b : Nat} (hb : b < 65536) : (((nI b).toUInt32 >>> ((15 : Int32).toUInt32 &&& Int32.toUInt32 31)).toInt32) &&& 1 = nI (b / 32768) := by
  rw [dd_top hb, pk_andN (by omega) 1 (by decide +kernel)]
  exact congrArg nI (Nat.mod_eq_of_lt (by omega))
theorem dd_shl {b : Nat} (hb : b < 65536) : nI b <<< ((1 : Int32) &&& 31) = nI (b * 2) :=
  pk_shlN _ 1 (by decide +kernel) (by omega)
theorem dd_shY {b : Nat} (hb : b < 65536) : ((nI b <<< ((1 : Int32) &&& 31)).toUInt32 % 65536).toInt32 = nI (b * 2 % 65536) := by
  rw [dd_shl hb, pk_char, pk_tn (by omega)]
theorem dd_shX {b : Nat} (hb : b < 65536) : (((nI b <<< ((1 : Int32) &&& 31)) &&& 65535).toUInt32 % 65536).toInt32 = nI (b * 2 % 65536) := by
  rw [dd_shl hb, pk_andN (by omega) 16 (by decide +kernel), pk_char, pk_tn (by omega)]
  exact congrArg nI (by omega)
theorem dd_ldX (x : Int32) : ((x &&& 65535).toUInt32 % 65536).toInt32 = nI (x.toBitVec.toNat % 65536) := by
  rw [pk_and x 16 (by decide +kernel), pk_char, pk_tn (by omega)]
  exact congrArg nI (by omega)
/-! the reference's decimal -/
theorem dd_rem {D c : Nat} (hD : D < 100000) (hc : c < 2) : ((nI D * 2) + nI c) - ((nI D * 2) + nI c) / 100000 * 100000 = nI ((D * 2 + c) % 100000) := by
  have e : (nI D * 2) + nI c = nI (D * 2 + c) := by
    rw [← nI_add, ← pk_mul]
    rfl
  rw [e]
  exact pk_rem (d := 100000) (by omega) (by decide) (by decide)
theorem dd_dg {D p : Nat} (hD : D < 100000) (h0 : 0 < p) (hp : p < 2 ^ 31) : (nI D / nI p) - (nI D / nI p) / 10 * 10 = nI (D / p % 10) := by
  have hl : D / p ≤ D := Nat.div_le_self _ _
  rw [pk_div (by omega) h0 hp]
  exact pk_rem (d := 10) (by omega) (by decide) (by decide)
end
section
/-! one turn of each printed loop; then each method's walk, the post general -/
theorem dd_s11 {post : Int32 → SX → Prop} {fb : Int32} {n : Nat} (i : Nat) (hi : i < 5) {a : Nat → Int32}
    (h : wX_load_11 post fb n (nI (i + 1)) (upd a i (nI 0))) : wX_load_11 post fb (n + 1) (nI i) a := by
  have hc : (nI i).toNatClampNeg = i := nI_clamp (by omega)
  exact br_f (lt5' i hi) ⟨vp_in_nI hi (by omega), nm_r (e' := upd a i (nI 0)) (by rw [hc, dd_zero]) (nm_r (nI_1 i) h)⟩
theorem dd_s2 {post : Int32 → SX → Prop} {fb : Int32} {n : Nat} (i : Nat) (hi : i < 5) (d : Nat) (hd : d < 10) {a : Nat → Int32} (ha : a i = nI d)
    (h : wX_clock_2 post fb n (nI (i + 1)) (upd a i (nI (dd_adj d)))) : wX_clock_2 post fb (n + 1) (nI i) a := by
  have hc : (nI i).toNatClampNeg = i := nI_clamp (by omega)
  have hin : vp_in (nI i) 5 := vp_in_nI hi (by omega)
  refine br_f (lt5' i hi) ⟨hin, nm_r (e' := nI d) (by rw [hc, ha]) ?_⟩
  by_cases h5 : d < 5
  · refine br_t (nI_lt (b := 5) h5 (by decide)) (nm_r (nI_1 i) ?_)
    have e : upd a i (nI (dd_adj d)) = a := by
      funext j
      by_cases hj : j = i
      · rw [hj, pk_us, ha, dd_adj, if_pos h5]
      · rw [pk_un hj]
    rw [e] at h
    exact h
  · exact br_f (nI_nlt (b := 5) (by omega) (by omega)) ⟨hin, nm_r (e' := upd a i (nI (dd_adj d))) (by rw [hc, dd_add3 hd h5]) (nm_r (nI_1 i) h)⟩
theorem dd_s66 {post : Int32 → SX → Prop} {x2 fb : Int32} {n : Nat} (i : Nat) (hi : i < 5) (e c : Nat) (he : e < 16) (hc2 : c < 2) {a : Nat → Int32} (ha : a i = nI e)
    (h : wX_clock_66 post x2 fb n (nI (e / 8 % 2)) (nI (i + 1)) (upd a i (nI ((2 * e + c) % 16)))) : wX_clock_66 post x2 fb (n + 1) (nI c) (nI i) a := by
  have hc : (nI i).toNatClampNeg = i := nI_clamp (by omega)
  have hin : vp_in (nI i) 5 := vp_in_nI hi (by omega)
  exact br_f (lt5' i hi) ⟨hin, nm_r (e' := nI e) (by rw [hc, ha]) (nm_r (dd_out e he) ⟨hin, nm_r (e' := upd a i (nI ((2 * e + c) % 16))) (by rw [hc, dd_cell he hc2]) (nm_r (nI_1 i) h)⟩)⟩
theorem dd_5 : (5 : Int32) ≤ nI (4 + 1) := by decide +kernel
theorem dd_ch (q : Nat) : narrow .char (.int (nI (q % 65536))) = .int (nI (q % 65536)) ∧ fits .char (.int (nI (q % 65536))) = true :=
  pk_charN (Nat.mod_lt _ (by decide))
theorem dd_Xload {post : Int32 → SX → Prop} {fb x : Int32} {a : Nat → Int32}
    (h : ∀ a' : Nat → Int32, a' 0 = nI 0 → a' 1 = nI 0 → a' 2 = nI 0 → a' 3 = nI 0 → a' 4 = nI 0 → post (nI (x.toBitVec.toNat % 65536)) (nI (x.toBitVec.toNat % 65536), a')) : wpX_load post (fb, a) x := by
  refine nm_r (dd_ldX x) ⟨(dd_ch _).1, (dd_ch _).2, 6, ?_⟩
  refine dd_s11 0 (by decide) (dd_s11 1 (by decide) (dd_s11 2 (by decide) (dd_s11 3 (by decide) (dd_s11 4 (by decide) ?_))))
  refine br_t dd_5 ?_
  rw [dd_b16 (Nat.mod_lt _ (by decide))]
  exact h _ rfl rfl rfl rfl rfl
theorem dd_Yload {post : Int32 → SY → Prop} {D fb x : Int32}
    (h : post (nI (x.toBitVec.toNat % 65536)) (0, nI (x.toBitVec.toNat % 65536))) : wpY_load post (D, fb) x :=
  nm_r (pk_char x) ⟨(dd_ch _).1, (dd_ch _).2, h⟩
theorem dd_X66 {post : Int32 → SX → Prop} {r fb : Int32} {d0 d1 d2 d3 d4 c : Nat} {a : Nat → Int32} (hc : c < 2)
    (h0 : d0 < 10) (h1 : d1 < 10) (h2 : d2 < 10) (h3 : d3 < 10) (h4 : d4 < 10)
    (a0 : a 0 = nI (dd_adj d0)) (a1 : a 1 = nI (dd_adj d1)) (a2 : a 2 = nI (dd_adj d2)) (a3 : a 3 = nI (dd_adj d3)) (a4 : a 4 = nI (dd_adj d4))
    (h : ∀ a' : Nat → Int32, a' 0 = nI (dd_nx d0 c) → a' 1 = nI (dd_nx d1 (dd_co d0)) → a' 2 = nI (dd_nx d2 (dd_co d1)) → a' 3 = nI (dd_nx d3 (dd_co d2)) → a' 4 = nI (dd_nx d4 (dd_co d3)) → post r (fb, a')) :
    wX_clock_66 post r fb 6 (nI c) (nI 0) a := by
  refine dd_s66 0 (by decide) (dd_adj d0) c (dd_adj16 d0 h0) hc a0 ?_
  refine dd_s66 1 (by decide) (dd_adj d1) (dd_co d0) (dd_adj16 d1 h1) (Nat.mod_lt _ (by decide)) a1 ?_
  refine dd_s66 2 (by decide) (dd_adj d2) (dd_co d1) (dd_adj16 d2 h2) (Nat.mod_lt _ (by decide)) a2 ?_
  refine dd_s66 3 (by decide) (dd_adj d3) (dd_co d2) (dd_adj16 d3 h3) (Nat.mod_lt _ (by decide)) a3 ?_
  refine dd_s66 4 (by decide) (dd_adj d4) (dd_co d3) (dd_adj16 d4 h4) (Nat.mod_lt _ (by decide)) a4 ?_
  exact br_t dd_5 (h _ rfl rfl rfl rfl rfl)
theorem dd_X2 {post : Int32 → SX → Prop} {fb : Int32} {d0 d1 d2 d3 d4 n : Nat} {a : Nat → Int32}
    (h0 : d0 < 10) (h1 : d1 < 10) (h2 : d2 < 10) (h3 : d3 < 10) (h4 : d4 < 10)
    (a0 : a 0 = nI d0) (a1 : a 1 = nI d1) (a2 : a 2 = nI d2) (a3 : a 3 = nI d3) (a4 : a 4 = nI d4)
    (h : ∀ a' : Nat → Int32, a' 0 = nI (dd_adj d0) → a' 1 = nI (dd_adj d1) → a' 2 = nI (dd_adj d2) → a' 3 = nI (dd_adj d3) → a' 4 = nI (dd_adj d4) → wX_clock_2 post fb n (nI (4 + 1)) a') :
    wX_clock_2 post fb (n + 5) (nI 0) a := by
  refine dd_s2 0 (by decide) d0 h0 a0 ?_
  refine dd_s2 1 (by decide) d1 h1 a1 ?_
  refine dd_s2 2 (by decide) d2 h2 a2 ?_
  refine dd_s2 3 (by decide) d3 h3 a3 ?_
  refine dd_s2 4 (by decide) d4 h4 a4 ?_
  exact h _ rfl rfl rfl rfl rfl
theorem dd_Xclock {post : Int32 → SX → Prop} {b d0 d1 d2 d3 d4 : Nat} {a : Nat → Int32} (hb : b < 65536)
    (h0 : d0 < 10) (h1 : d1 < 10) (h2 : d2 < 10) (h3 : d3 < 10) (h4 : d4 < 10)
    (a0 : a 0 = nI d0) (a1 : a 1 = nI d1) (a2 : a 2 = nI d2) (a3 : a 3 = nI d3) (a4 : a 4 = nI d4)
    (h : ∀ a' : Nat → Int32, a' 0 = nI (dd_nx d0 (b / 32768)) → a' 1 = nI (dd_nx d1 (dd_co d0)) → a' 2 = nI (dd_nx d2 (dd_co d1)) → a' 3 = nI (dd_nx d3 (dd_co d2)) → a' 4 = nI (dd_nx d4 (dd_co d3)) → post (nI (b / 32768)) (nI (b * 2 % 65536), a')) :
    wpX_clock post (nI b, a) := by
  refine ⟨1 + 5, dd_X2 h0 h1 h2 h3 h4 a0 a1 a2 a3 a4 (fun a' e0 e1 e2 e3 e4 => ?_)⟩
  refine br_t dd_5 (nm_r (dd_b16 hb) (nm_r (dd_top1 hb) (nm_r (dd_shX hb) ⟨(dd_ch _).1, (dd_ch _).2, 6, ?_⟩)))
  exact dd_X66 (by omega) h0 h1 h2 h3 h4 e0 e1 e2 e3 e4 h
theorem dd_Yclock {post : Int32 → SY → Prop} {b D : Nat} (hb : b < 65536) (hD : D < 100000)
    (h : post (nI (b / 32768)) (nI ((D * 2 + b / 32768) % 100000), nI (b * 2 % 65536))) : wpY_clock post (nI D, nI b) :=
  nm_r (dd_top hb) (nm_r (dd_shY hb) ⟨(dd_ch _).1, (dd_ch _).2, by decide, nm_r (dd_rem hD (by omega)) h⟩)
theorem dd_Y53 {post : Int32 → Prop} {D p d : Nat} {fb : Int32} (hD : D < 100000) (h0 : 0 < p) (hp : p < 2 ^ 31) (e : D / p % 10 = d) (h : post (nI d)) : wY_digit_53 post (nI p) (nI D) fb := by
  refine ⟨nI_ne0 h0 hp, by decide, ?_⟩
  rw [dd_dg hD h0 hp, e]
  exact h
end
section
/-- b: the bits not yet shifted in, the same on both sides; d0 .. d4: the component's digits, units first; the reference's decimal is their sum by places -/
def i_Rel (_ : Nat) (u : SX) (v : SY) : Prop :=
  ∃ (b d0 d1 d2 d3 d4 : Nat) (a : Nat → Int32), b < 65536 ∧ d0 < 10 ∧ d1 < 10 ∧ d2 < 10 ∧ d3 < 10 ∧ d4 < 10 ∧
    a 0 = nI d0 ∧ a 1 = nI d1 ∧ a 2 = nI d2 ∧ a 3 = nI d3 ∧ a 4 = nI d4 ∧
    u = (nI b, a) ∧ v = (nI (d0 + 10 * d1 + 100 * d2 + 1000 * d3 + 10000 * d4), nI b)
theorem i_up {k : Nat} {u : SX} {v : SY} (h : i_Rel k u v) : i_Rel (k + 2) u v := h
theorem i_vc0 : wpX_init (fun u => wpY_init (fun v => i_Rel 0 u v)) :=
  ⟨0, 0, 0, 0, 0, 0, fun _ => 0, by decide, by decide, by decide, by decide, by decide, by decide, nI_0.symm, nI_0.symm, nI_0.symm, nI_0.symm, nI_0.symm, by rw [nI_0], by rw [nI_0]⟩
theorem i_vc_load {k : Nat} {u : SX} {v : SY} (I : i_Rel k u v) (hk : k + 2 ≤ 1024) (v1 : Int32) : wpX_load (fun r u' => wpY_load (fun r' v' => r' = r ∧ i_Rel (k + 2) u' v') v v1) u v1 := by
  obtain ⟨b, d0, d1, d2, d3, d4, a, hb, h0, h1, h2, h3, h4, a0, a1, a2, a3, a4, rfl, rfl⟩ := I
  refine dd_Xload (fun a' e0 e1 e2 e3 e4 => dd_Yload ⟨rfl, ?_⟩)
  exact ⟨v1.toBitVec.toNat % 65536, 0, 0, 0, 0, 0, a', Nat.mod_lt _ (by decide), by decide, by decide, by decide, by decide, by decide, e0, e1, e2, e3, e4, rfl, by rw [nI_0]⟩
theorem i_vc_clock {k : Nat} {u : SX} {v : SY} (I : i_Rel k u v) (hk : k + 2 ≤ 1024) : wpX_clock (fun r u' => wpY_clock (fun r' v' => r' = r ∧ i_Rel (k + 2) u' v') v) u := by
  obtain ⟨b, d0, d1, d2, d3, d4, a, hb, h0, h1, h2, h3, h4, a0, a1, a2, a3, a4, rfl, rfl⟩ := I
  refine dd_Xclock hb h0 h1 h2 h3 h4 a0 a1 a2 a3 a4 (fun a' e0 e1 e2 e3 e4 => dd_Yclock hb (by omega) ⟨rfl, ?_⟩)
  have hc : b / 32768 < 2 := by omega
  obtain ⟨p0, q0, s0⟩ := dd_step d0 h0 _ hc
  obtain ⟨p1, q1, s1⟩ := dd_step d1 h1 _ q0
  obtain ⟨p2, q2, s2⟩ := dd_step d2 h2 _ q1
  obtain ⟨p3, q3, s3⟩ := dd_step d3 h3 _ q2
  obtain ⟨p4, q4, s4⟩ := dd_step d4 h4 _ q3
  exact ⟨b * 2 % 65536, _, _, _, _, _, a', Nat.mod_lt _ (by decide), p0, p1, p2, p3, p4, e0, e1, e2, e3, e4, rfl, by rw [dd_sum p0 p1 p2 p3 p4 s0 s1 s2 s3 s4]⟩
theorem i_vc_digit {k : Nat} {u : SX} {v : SY} (I : i_Rel k u v) (hk : k + 2 ≤ 1024) (v1 : Int32) : wpX_digit (fun r => wpY_digit (fun r' => r' = r ∧ i_Rel (k + 2) u v) v v1) u v1 := by
  have J : i_Rel (k + 2) u v := i_up I
  obtain ⟨b, d0, d1, d2, d3, d4, a, hb, h0, h1, h2, h3, h4, a0, a1, a2, a3, a4, rfl, rfl⟩ := I
  by_cases hn : v1 < 0
  · exact br_t hn (br_t hn ⟨rfl, J⟩)
  · by_cases hl : v1 ≤ 4
    · obtain ⟨j, hj, rfl⟩ := nI_of2 (M := 4) (n := 4) (by decide) hn hl
      refine br_f hn (br_t hl ⟨vp_in_nI (by omega) (by decide), br_f hn (br_t hl ?_)⟩)
      rw [nI_clamp (by omega)]
      have hD : d0 + 10 * d1 + 100 * d2 + 1000 * d3 + 10000 * d4 < 100000 := by omega
      have hjs : j = 0 ∨ j = 1 ∨ j = 2 ∨ j = 3 ∨ j = 4 := by omega
      rcases hjs with rfl | rfl | rfl | rfl | rfl
      · exact br_t (by decide +kernel) (dd_Y53 (p := 1) hD (by decide) (by decide) (by omega) ⟨a0.symm, J⟩)
      · exact br_f (by decide +kernel) (br_t (by decide +kernel) (dd_Y53 (p := 10) hD (by decide) (by decide) (by omega) ⟨a1.symm, J⟩))
      · exact br_f (by decide +kernel) (br_f (by decide +kernel) (br_t (by decide +kernel) (dd_Y53 (p := 100) hD (by decide) (by decide) (by omega) ⟨a2.symm, J⟩)))
      · exact br_f (by decide +kernel) (br_f (by decide +kernel) (br_f (by decide +kernel) (br_t (by decide +kernel) (dd_Y53 (p := 1000) hD (by decide) (by decide) (by omega) ⟨a3.symm, J⟩))))
      · exact br_f (by decide +kernel) (br_f (by decide +kernel) (br_f (by decide +kernel) (br_f (by decide +kernel) (dd_Y53 (p := 10000) hD (by decide) (by decide) (by omega) ⟨a4.symm, J⟩))))
    · exact br_f hn (br_f hl (br_f hn (br_f hl ⟨rfl, J⟩)))
theorem i_vc_rest {k : Nat} {u : SX} {v : SY} (I : i_Rel k u v) (hk : k + 2 ≤ 1024) : wpX_rest (fun r => wpY_rest (fun r' => r' = r ∧ i_Rel (k + 2) u v) v) u := by
  have J : i_Rel (k + 2) u v := i_up I
  obtain ⟨b, d0, d1, d2, d3, d4, a, hb, h0, h1, h2, h3, h4, a0, a1, a2, a3, a4, rfl, rfl⟩ := I
  exact ⟨(dd_b16 hb).symm, J⟩
end
