section
/-! rows pasted from kit/rows/PURE-ROWS: updates, masks, the char cast -/
theorem pk_us {f : Nat → Int32} {k : Nat} {x : Int32} : upd f k x k = x := if_pos rfl
theorem pk_un {f : Nat → Int32} {k j : Nat} {x : Int32} (h : j ≠ k) : upd f k x j = f j := if_neg h
theorem pk_uLs {f : Nat → Int64} {k : Nat} {x : Int64} : vp_updL f k x k = x := if_pos rfl
theorem pk_uLn {f : Nat → Int64} {k j : Nat} {x : Int64} (h : j ≠ k) : vp_updL f k x j = f j := if_neg h
theorem pk_tn {n : Nat} (h : n < 2 ^ 32) : (nI n).toBitVec.toNat = n := Nat.mod_eq_of_lt h
theorem pk_and (x : Int32) {m : Int32} (k : Nat) (hm : m.toBitVec.toNat = 2 ^ k - 1) : x &&& m = nI (x.toBitVec.toNat % 2 ^ k) := by
  apply Int32.toBitVec_inj.mp
  apply BitVec.eq_of_toNat_eq
  rw [Int32.toBitVec_and, BitVec.toNat_and, hm, Nat.and_two_pow_sub_one_eq_mod]
  show _ = (BitVec.ofNat 32 _).toNat
  rw [BitVec.toNat_ofNat]
  exact (Nat.mod_eq_of_lt (Nat.lt_of_le_of_lt (Nat.mod_le _ _) x.toBitVec.isLt)).symm
theorem pk_andE (x : Int32) {m : Int32} (k : Nat) (hm : m.toBitVec.toNat = 2 ^ k - 1) : ∃ j : Nat, j < 2 ^ k ∧ x &&& m = nI j := ⟨_, Nat.mod_lt _ (Nat.two_pow_pos k), pk_and x k hm⟩
theorem pk_andIn (x : Int32) {m : Int32} (k : Nat) (hm : m.toBitVec.toNat = 2 ^ k - 1) (hk : k ≤ 30) : vp_in (x &&& m) (2 ^ k) := by
  obtain ⟨j, hj, e⟩ := pk_andE x k hm
  rw [e]
  exact vp_in_nI hj (Nat.lt_of_le_of_lt (Nat.pow_le_pow_right (by decide) hk) (by decide))
theorem pk_charN {q : Nat} (hq : q < 65536) : narrow .char (.int (nI q)) = .int (nI q) ∧ fits .char (.int (nI q)) = true := by
  constructor
  · have e : (nI q).toUInt32.toUInt16.toUInt32.toInt32 = nI q := by
      apply Int32.toBitVec_inj.mp
      apply BitVec.eq_of_toNat_eq
      show (nI q).toUInt32.toUInt16.toUInt32.toNat = q % 2 ^ 32
      rw [UInt16.toNat_toUInt32, UInt32.toNat_toUInt16, show (nI q).toUInt32.toNat = q % 2 ^ 32 from rfl]
      omega
    exact congrArg Value.int e
  · have a : (0 : Int32) ≤ nI q := nI_pos' (by omega)
    have b : nI q ≤ 65535 := nI_le (b := 65535) (by omega) (by decide)
    show (decide ((0 : Int32) ≤ nI q) && decide (nI q ≤ 65535)) = true
    rw [decide_eq_true a, decide_eq_true b]
    rfl
theorem pk_char (x : Int32) : (x.toUInt32 % 65536).toInt32 = nI (x.toBitVec.toNat % 65536) := by
  apply Int32.toBitVec_inj.mp
  apply BitVec.eq_of_toNat_eq
  rw [pk_tn (by omega)]
  show (x.toUInt32 % 65536).toNat = _
  rw [UInt32.toNat_mod]
  rfl
theorem pk_nc (x : Int32) : narrow .char (.int (x.toUInt32 % 65536).toInt32) = .int (x.toUInt32 % 65536).toInt32 := by
  rw [pk_char]
  exact (pk_charN (Nat.mod_lt _ (by decide))).1
theorem pk_vc (z : Int32) : vp_nar .char (z.toUInt32 % 65536).toInt32 = (z.toUInt32 % 65536).toInt32 := Value.int.inj (pk_nc z)
end
section
/-! a long by its bits; a descriptor: address below 32, length at 32 .. 47, done 62, own 63 -/
def dr_b (x : Int64) (i : Nat) : Bool := x.toBitVec.getLsbD i
theorem dr_ext {x y : Int64} (h : ∀ i, i < 64 → dr_b x i = dr_b y i) : x = y := Int64.toBitVec_inj.mp (BitVec.eq_of_getLsbD_eq (fun i hi => h i hi))
theorem dr_or (x y : Int64) (i : Nat) : dr_b (x ||| y) i = (dr_b x i || dr_b y i) := by unfold dr_b; rw [Int64.toBitVec_or, BitVec.getLsbD_or]
theorem dr_and (x y : Int64) (i : Nat) : dr_b (x &&& y) i = (dr_b x i && dr_b y i) := by unfold dr_b; rw [Int64.toBitVec_and, BitVec.getLsbD_and]
theorem dr_0 (i : Nat) : dr_b 0 i = false := BitVec.getLsbD_zero
theorem dr_m32 : ∀ i, i < 64 → dr_b 4294967295 i = decide (i < 32) := by decide +kernel
theorem dr_m16 : ∀ i, i < 64 → dr_b 65535 i = decide (i < 16) := by decide +kernel
theorem dr_own : ∀ i, i < 64 → dr_b (-9223372036854775808) i = decide (i = 63) := by decide +kernel
theorem dr_done : ∀ i, i < 64 → dr_b 4611686018427387904 i = decide (i = 62) := by decide +kernel
theorem dr_both : ∀ i, i < 64 → dr_b (-4611686018427387904) i = decide (62 ≤ i) := by decide +kernel
theorem dr_shl (x : Int64) {i : Nat} (hi : i < 64) : dr_b (x <<< ((32 : Int32).toInt64 &&& 63)) i = (decide (32 ≤ i) && dr_b x (i - 32)) := by
  unfold dr_b
  rw [Int64.toBitVec_shiftLeft]
  show (x.toBitVec <<< (((32 : Int32).toInt64 &&& 63).toBitVec.smod 64).toNat).getLsbD i = _
  rw [show (((32 : Int32).toInt64 &&& 63).toBitVec.smod 64).toNat = 32 from by decide +kernel, BitVec.getLsbD_shiftLeft]
  rcases Nat.lt_or_ge i 32 with h | h
  · simp [h, Nat.not_le.mpr h]
  · simp [hi, h, Nat.not_lt.mpr h]
theorem dr_ushr (x : Int64) (i : Nat) : dr_b ((x.toUInt64 >>> ((32 : Int32).toInt64.toUInt64 &&& Int64.toUInt64 63)).toInt64) i = dr_b x (32 + i) := by
  show (x.toUInt64 >>> ((32 : Int32).toInt64.toUInt64 &&& Int64.toUInt64 63)).toBitVec.getLsbD i = x.toUInt64.toBitVec.getLsbD (32 + i)
  rw [UInt64.toBitVec_shiftRight]
  show (x.toUInt64.toBitVec >>> (((32 : Int32).toInt64.toUInt64 &&& Int64.toUInt64 63).toBitVec % 64).toNat).getLsbD i = _
  rw [show (((32 : Int32).toInt64.toUInt64 &&& Int64.toUInt64 63).toBitVec % 64).toNat = 32 from by decide +kernel, BitVec.getLsbD_ushiftRight]
theorem dr_lN (w : Nat) {i : Nat} (hi : i < 64) : dr_b (lN w) i = w.testBit i := by
  show (BitVec.ofNat 64 w).getLsbD i = _
  rw [BitVec.getLsbD_ofNat]
  simp [hi]
theorem dr_len {w : Nat} (hw : w < 65536) {i : Nat} (hi : 16 ≤ i) : w.testBit i = false :=
  Nat.testBit_lt_two_pow (Nat.lt_of_lt_of_le (show w < 2 ^ 16 from hw) (Nat.pow_le_pow_right (by decide) hi))
/-- the tests of one bit, and of the two -/
theorem dr_z1 (x : Int64) : (x &&& (-9223372036854775808)) = 0 ↔ dr_b x 63 = false := by
  constructor
  · intro h
    have e := dr_and x (-9223372036854775808) 63
    rw [h, dr_0, dr_own 63 (by omega)] at e
    simpa using e.symm
  · intro h
    apply dr_ext
    intro i hi
    rw [dr_and, dr_own i hi, dr_0]
    by_cases c : i = 63
    · rw [c, h]; rfl
    · simp [c]
theorem dr_z2 (x : Int64) : (x &&& 4611686018427387904) = 0 ↔ dr_b x 62 = false := by
  constructor
  · intro h
    have e := dr_and x 4611686018427387904 62
    rw [h, dr_0, dr_done 62 (by omega)] at e
    simpa using e.symm
  · intro h
    apply dr_ext
    intro i hi
    rw [dr_and, dr_done i hi, dr_0]
    by_cases c : i = 62
    · rw [c, h]; rfl
    · simp [c]
theorem dr_z3 (x : Int64) : (x &&& (-4611686018427387904)) = 0 ↔ dr_b x 62 = false ∧ dr_b x 63 = false := by
  constructor
  · intro h
    have e := dr_and x (-4611686018427387904) 62
    have f := dr_and x (-4611686018427387904) 63
    rw [h, dr_0, dr_both 62 (by omega)] at e
    rw [h, dr_0, dr_both 63 (by omega)] at f
    exact ⟨by simpa using e.symm, by simpa using f.symm⟩
  · intro h
    apply dr_ext
    intro i hi
    rw [dr_and, dr_both i hi, dr_0]
    by_cases c : 62 ≤ i
    · rcases (show i = 62 ∨ i = 63 by omega) with d | d
      · rw [d, h.1]; rfl
      · rw [d, h.2]; rfl
    · simp [c]
/-- address and length of a descriptor, without its flags -/
def dr_q (a l : Int32) : Int64 := (a.toInt64 &&& 4294967295) ||| (l.toInt64 <<< ((32 : Int32).toInt64 &&& 63))
theorem dr_qb (a : Int32) {w : Nat} (hw : w < 65536) {i : Nat} (hi : i < 64) : dr_b (dr_q a (nI w)) i = ((dr_b a.toInt64 i && decide (i < 32)) || (decide (32 ≤ i) && w.testBit (i - 32))) := by
  unfold dr_q
  rw [dr_or, dr_and, dr_m32 i hi, dr_shl _ hi, nI_l (by omega), dr_lN w (show i - 32 < 64 by omega)]
theorem dr_qhi (a : Int32) {w : Nat} (hw : w < 65536) {i : Nat} (hi : i < 64) (h : 48 ≤ i) : dr_b (dr_q a (nI w)) i = false := by
  rw [dr_qb a hw hi, dr_len hw (show 16 ≤ i - 32 by omega), decide_eq_false (show ¬ i < 32 by omega)]
  simp
theorem dr_q0 : dr_q 0 0 = 0 := by decide +kernel
/-- a length's mask takes nothing -/
theorem dr_mask {w : Nat} (hw : w < 65536) : (nI w).toInt64 &&& 65535 = (nI w).toInt64 := by
  rw [nI_l (by omega)]
  apply dr_ext
  intro i hi
  rw [dr_and, dr_m16 i hi, dr_lN w hi]
  by_cases c : i < 16
  · simp [c]
  · rw [dr_len hw (by omega)]; simp
/-- what is read back: the length, the address -/
theorem dr_rl (x : Int64) (a : Int32) {w : Nat} (hw : w < 65536) (h : ∀ i, i < 48 → dr_b x i = dr_b (dr_q a (nI w)) i) : (((x.toUInt64 >>> ((32 : Int32).toInt64.toUInt64 &&& Int64.toUInt64 63)).toInt64) &&& 65535).toInt32 = nI w := by
  rw [← lN_i]
  congr 1
  apply dr_ext
  intro i hi
  rw [dr_and, dr_m16 i hi, dr_ushr, dr_lN w hi]
  by_cases c : i < 16
  · rw [h _ (by omega), dr_qb a hw (by omega), decide_eq_false (show ¬ 32 + i < 32 by omega), decide_eq_true (show 32 ≤ 32 + i by omega), Nat.add_sub_cancel_left]
    simp [c]
  · rw [dr_len hw (by omega), decide_eq_false c]; simp
theorem dr_ra (x : Int64) (a : Int32) {w : Nat} (hw : w < 65536) (h : ∀ i, i < 48 → dr_b x i = dr_b (dr_q a (nI w)) i) : x &&& 4294967295 = a.toInt64 &&& 4294967295 := by
  apply dr_ext
  intro i hi
  rw [dr_and, dr_and, dr_m32 i hi]
  by_cases c : i < 32
  · rw [h _ (by omega), dr_qb a hw hi, decide_eq_false (show ¬ 32 ≤ i by omega)]
    simp [c]
  · simp [c]
end
section
/-! one slot of the ring: X's word against Y's address, length, state -/
def dr_L (l : Int32) : Prop := ∃ w : Nat, w < 65536 ∧ l = nI w
def dr_S (x : Int64) (a l s : Int32) : Prop := dr_L l ∧ ((s = 0 ∧ x = dr_q a l) ∨ (s = 1 ∧ x = dr_q a l ||| (-9223372036854775808)) ∨ (s = 2 ∧ x = dr_q a l ||| 4611686018427387904))
theorem dr_Slo {x : Int64} {a s : Int32} {w : Nat} (h : dr_S x a (nI w) s) : ∀ i, i < 48 → dr_b x i = dr_b (dr_q a (nI w)) i := by
  intro i hi
  rcases h.2 with ⟨_, e⟩ | ⟨_, e⟩ | ⟨_, e⟩
  · rw [e]
  · rw [e, dr_or, dr_own i (by omega), decide_eq_false (show ¬ i = 63 by omega), Bool.or_false]
  · rw [e, dr_or, dr_done i (by omega), decide_eq_false (show ¬ i = 62 by omega), Bool.or_false]
theorem dr_S63 {x : Int64} {a l s : Int32} (h : dr_S x a l s) : dr_b x 63 = decide (s = 1) := by
  obtain ⟨⟨w, hw, rfl⟩, h⟩ := h
  rcases h with ⟨e, f⟩ | ⟨e, f⟩ | ⟨e, f⟩
  · rw [e, f, dr_qhi a hw (by omega) (by omega)]; decide
  · rw [e, f, dr_or, dr_qhi a hw (by omega) (by omega), dr_own 63 (by omega)]; decide
  · rw [e, f, dr_or, dr_qhi a hw (by omega) (by omega), dr_done 63 (by omega)]; decide
theorem dr_S62 {x : Int64} {a l s : Int32} (h : dr_S x a l s) : dr_b x 62 = decide (s = 2) := by
  obtain ⟨⟨w, hw, rfl⟩, h⟩ := h
  rcases h with ⟨e, f⟩ | ⟨e, f⟩ | ⟨e, f⟩
  · rw [e, f, dr_qhi a hw (by omega) (by omega)]; decide
  · rw [e, f, dr_or, dr_qhi a hw (by omega) (by omega), dr_own 62 (by omega)]; decide
  · rw [e, f, dr_or, dr_qhi a hw (by omega) (by omega), dr_done 62 (by omega)]; decide
theorem dr_isOwn {x : Int64} {a l s : Int32} (h : dr_S x a l s) : (x &&& (-9223372036854775808)) = 0 ↔ ¬ s = 1 := by
  rw [dr_z1, dr_S63 h, decide_eq_false_iff_not]
theorem dr_isDone {x : Int64} {a l s : Int32} (h : dr_S x a l s) : (x &&& 4611686018427387904) = 0 ↔ ¬ s = 2 := by
  rw [dr_z2, dr_S62 h, decide_eq_false_iff_not]
theorem dr_isFree {x : Int64} {a l s : Int32} (h : dr_S x a l s) : (x &&& (-4611686018427387904)) = 0 ↔ s = 0 := by
  rw [dr_z3, dr_S62 h, dr_S63 h, decide_eq_false_iff_not, decide_eq_false_iff_not]
  constructor
  · intro z
    rcases h.2 with ⟨e, _⟩ | ⟨e, _⟩ | ⟨e, _⟩
    · exact e
    · exact absurd e z.2
    · exact absurd e z.1
  · intro z
    rw [z]
    exact ⟨by decide, by decide⟩
theorem dr_Slen {x : Int64} {a l s : Int32} (h : dr_S x a l s) : (((x.toUInt64 >>> ((32 : Int32).toInt64.toUInt64 &&& Int64.toUInt64 63)).toInt64) &&& 65535).toInt32 = l := by
  obtain ⟨w, hw, rfl⟩ := h.1
  exact dr_rl x a hw (dr_Slo h)
theorem dr_Sadr {x : Int64} {a l s : Int32} (h : dr_S x a l s) : x &&& 4294967295 = a.toInt64 &&& 4294967295 := by
  obtain ⟨w, hw, rfl⟩ := h.1
  exact dr_ra x a hw (dr_Slo h)
theorem dr_S0 : dr_S 0 0 0 0 := ⟨⟨0, by decide, nI_0.symm⟩, Or.inl ⟨rfl, dr_q0.symm⟩⟩
/-- a length that fits: mask and char cast keep it -/
theorem dr_Lm {l : Int32} (h : dr_L l) : l.toInt64 &&& 65535 = l.toInt64 := by
  obtain ⟨w, hw, rfl⟩ := h
  exact dr_mask hw
theorem dr_Lc {l : Int32} (h : dr_L l) : vp_nar .char ((l.toUInt32 % 65536).toInt32) = l := by
  obtain ⟨w, hw, rfl⟩ := h
  rw [pk_vc, pk_char, pk_tn (by omega), Nat.mod_eq_of_lt hw]
theorem dr_Lof {l : Int32} (h : ¬ l < 0) (h2 : l ≤ 65535) : dr_L l := by
  obtain ⟨j, hj, e⟩ := nI_of2 (M := 65535) (n := 65535) (by decide) h h2
  exact ⟨j, by omega, e⟩
theorem dr_Lle {l m : Int32} (h : 0 ≤ l) (h2 : l ≤ m) (hm : dr_L m) : dr_L l := by
  obtain ⟨w, hw, rfl⟩ := hm
  exact dr_Lof (Int32.not_lt.mpr h) (Int32.le_trans h2 (nI_le (b := 65535) (by omega) (by decide)))
theorem dr_n0 : vp_nar .byte 0 = 0 := by rw [vp_nar_byte]; decide
theorem dr_n1 : vp_nar .byte 1 = 1 := by rw [vp_nar_byte]; decide
theorem dr_n2 : vp_nar .byte 2 = 2 := by rw [vp_nar_byte]; decide
theorem dr_nc : vp_nar .char 0 = 0 := by rw [vp_nar_char]; decide
theorem dr_in (x : Int32) : vp_in (x &&& 3) 4 := pk_andIn x 2 (by decide) (by decide)
/-- all slots -/
def dr_H (ring : Nat → Int64) (addr len st : Nat → Int32) : Prop := ∀ j, dr_S (ring j) (addr j) (len j) (st j)
theorem dr_Hu {ring : Nat → Int64} {addr len st : Nat → Int32} (H : dr_H ring addr len st) (k : Nat) {x : Int64} {a l s : Int32} (h : dr_S x a l s) : dr_H (vp_updL ring k x) (upd addr k a) (upd len k l) (upd st k s) := by
  intro j
  by_cases c : j = k
  · rw [c, pk_uLs, pk_us, pk_us, pk_us]; exact h
  · rw [pk_uLn c, pk_un c, pk_un c, pk_un c]; exact H j
theorem dr_Hv {ring : Nat → Int64} {addr len st : Nat → Int32} (H : dr_H ring addr len st) (k : Nat) {x : Int64} {l s : Int32} (h : dr_S x (addr k) l s) : dr_H (vp_updL ring k x) addr (upd len k l) (upd st k s) := by
  intro j
  by_cases c : j = k
  · rw [c, pk_uLs, pk_us, pk_us]; exact h
  · rw [pk_uLn c, pk_un c, pk_un c]; exact H j
end
section
/-- the cursors are the same and within; every slot's word is that of Y's address, length and state -/
def i_Rel (_ : Nat) (u : SX) (v : SY) : Prop := ∃ (p d r : Int32) (ring : Nat → Int64) (addr len st : Nat → Int32), u = (p, d, r, ring) ∧ v = (p, d, r, addr, len, st) ∧ vp_in p 4 ∧ vp_in d 4 ∧ vp_in r 4 ∧ dr_H ring addr len st
theorem dr_mk {k : Nat} {p d r : Int32} {ring : Nat → Int64} {addr len st : Nat → Int32} (hp : vp_in p 4) (hd : vp_in d 4) (hr : vp_in r 4) (H : dr_H ring addr len st) : i_Rel k (p, d, r, ring) (p, d, r, addr, len, st) :=
  ⟨p, d, r, ring, addr, len, st, rfl, rfl, hp, hd, hr, H⟩
theorem i_up {k : Nat} {u : SX} {v : SY} (h : i_Rel k u v) : i_Rel (k + 3) u v := h
theorem i_vc0 : wpX_init (fun u => wpY_init (fun v => i_Rel 0 u v)) :=
  dr_mk (k := 0) (vp_in_iff.mpr (by decide)) (vp_in_iff.mpr (by decide)) (vp_in_iff.mpr (by decide)) (fun _ => dr_S0)
theorem i_vc_post {k : Nat} {u : SX} {v : SY} (I : i_Rel k u v) (hk : k + 3 ≤ 1536) (v1 : Int32) (v2 : Int32) : wpX_post (fun r u' => wpY_post (fun r' v' => r' = r ∧ i_Rel (k + 3) u' v') v v1 v2) u v1 v2 := by
  obtain ⟨p, d, r, ring, addr, len, st, rfl, rfl, hp, hd, hr, H⟩ := I
  by_cases h1 : v2 < 1
  · exact br_t h1 (br_t h1 ⟨rfl, dr_mk hp hd hr H⟩)
  by_cases h2 : v2 ≤ 65535
  · have hs := H p.toNatClampNeg
    by_cases z : st p.toNatClampNeg = 0
    · have h0 : ¬ v2 < 0 := by
        intro c
        exact h1 (Int32.lt_trans c (by decide))
      have hL : dr_L v2 := dr_Lof h0 h2
      refine br_f h1 (br_t h2 ⟨hp, fun x ex => br_t (by rw [ex]; exact (dr_isFree hs).mpr z) fun a ea b eb => ⟨hp, fun R eR c ec => ?_⟩⟩)
      refine br_f h1 (br_t h2 ⟨hp, br_t z ⟨hp, fun A eA => ⟨hp, fun L eL => ⟨hp, fun S eS c' ec' => ⟨rfl, ?_⟩⟩⟩⟩⟩)
      rw [eR, ec, eA, eL, eS, ec', ea, eb, dr_Lm hL, dr_Lc hL, dr_n1]
      exact dr_mk (dr_in _) hd hr (dr_Hu H _ ⟨hL, Or.inr (Or.inl ⟨rfl, rfl⟩)⟩)
    · refine br_f h1 (br_t h2 ⟨hp, fun x ex => br_f (by rw [ex]; exact fun c => z ((dr_isFree hs).mp c)) ?_⟩)
      exact br_f h1 (br_t h2 ⟨hp, br_f z ⟨rfl, dr_mk hp hd hr H⟩⟩)
  · exact br_f h1 (br_f h2 (br_f h1 (br_f h2 ⟨rfl, dr_mk hp hd hr H⟩)))
/-- the device's store of a length c that fits: one outcome for both -/
theorem dr_dev {k : Nat} {p d r : Int32} {ring : Nat → Int64} {addr len st : Nat → Int32} (hp : vp_in p 4) (hd : vp_in d 4) (hr : vp_in r 4) (H : dr_H ring addr len st) {c : Int32} (hc : dr_L c) : ∃ (u : SX) (v : SY), i_Rel k u v ∧ (∀ post : Int32 → SX → Prop, post d u → wX_deviceStep_55 post (ring d.toNatClampNeg) c p d r ring) ∧ (∀ post : Int32 → SY → Prop, post d v → wY_deviceStep_45 post d c p d r addr len st) := by
  have hs := H d.toNatClampNeg
  refine ⟨(p, (d + 1) &&& 3, r, vp_updL ring d.toNatClampNeg (dr_q (addr d.toNatClampNeg) c ||| 4611686018427387904)), (p, (d + 1) &&& 3, r, addr, upd len d.toNatClampNeg c, upd st d.toNatClampNeg 2), ?_, ?_, ?_⟩
  · exact dr_mk hp (dr_in _) hr (dr_Hv H _ ⟨hc, Or.inr (Or.inr ⟨rfl, rfl⟩)⟩)
  · intro post h x ex
    refine ⟨hd, fun R eR e ee => ?_⟩
    rw [eR, ee, ex, dr_Sadr hs, dr_Lm hc]
    exact h
  · intro post h
    refine ⟨hd, fun L eL => ⟨hd, fun S eS e ee => ?_⟩⟩
    rw [eL, eS, ee, dr_Lc hc, dr_n2]
    exact h
theorem i_vc_deviceStep {k : Nat} {u : SX} {v : SY} (I : i_Rel k u v) (hk : k + 3 ≤ 1536) (v1 : Int32) : wpX_deviceStep (fun r u' => wpY_deviceStep (fun r' v' => r' = r ∧ i_Rel (k + 3) u' v') v v1) u v1 := by
  obtain ⟨p, d, r, ring, addr, len, st, rfl, rfl, hp, hd, hr, H⟩ := I
  have hs := H d.toNatClampNeg
  by_cases z : st d.toNatClampNeg = 1
  · refine ⟨hd, fun x ex => br_f (by rw [ex]; exact fun c => (dr_isOwn hs).mp c z) fun l el => ?_⟩
    have el' : l = len d.toNatClampNeg := by rw [el, ex]; exact dr_Slen hs
    subst el'
    subst ex
    by_cases h0 : 0 ≤ v1
    · by_cases h1 : v1 ≤ len d.toNatClampNeg
      · obtain ⟨u, v, R, hX, hY⟩ := dr_dev (k := k + 3) hp hd hr H (dr_Lle h0 h1 hs.1)
        exact br_t h0 (br_t h1 (hX _ ⟨hd, br_t z (br_t h0 ⟨hd, br_t h1 (hY _ ⟨rfl, R⟩)⟩)⟩))
      · obtain ⟨u, v, R, hX, hY⟩ := dr_dev (k := k + 3) hp hd hr H hs.1
        exact br_t h0 (br_f h1 (hX _ ⟨hd, br_t z (br_t h0 ⟨hd, br_f h1 ⟨hd, nm_e (hY _ ⟨rfl, R⟩)⟩⟩)⟩))
    · by_cases h1 : 0 ≤ len d.toNatClampNeg
      · obtain ⟨u, v, R, hX, hY⟩ := dr_dev (k := k + 3) hp hd hr H (dr_Lle (by decide) h1 hs.1)
        exact br_f h0 (br_t h1 (hX _ ⟨hd, br_t z (br_f h0 ⟨hd, br_t h1 (hY _ ⟨rfl, R⟩)⟩)⟩))
      · obtain ⟨u, v, R, hX, hY⟩ := dr_dev (k := k + 3) hp hd hr H hs.1
        exact br_f h0 (br_f h1 (hX _ ⟨hd, br_t z (br_f h0 ⟨hd, br_f h1 ⟨hd, nm_e (hY _ ⟨rfl, R⟩)⟩⟩)⟩))
  · refine ⟨hd, fun x ex => br_t (by rw [ex]; exact (dr_isOwn hs).mpr z) ?_⟩
    exact ⟨hd, br_f z ⟨rfl, dr_mk hp hd hr H⟩⟩
theorem i_vc_reap {k : Nat} {u : SX} {v : SY} (I : i_Rel k u v) (hk : k + 3 ≤ 1536) : wpX_reap (fun r u' => wpY_reap (fun r' v' => r' = r ∧ i_Rel (k + 3) u' v') v) u := by
  obtain ⟨p, d, r, ring, addr, len, st, rfl, rfl, hp, hd, hr, H⟩ := I
  have hs := H r.toNatClampNeg
  by_cases z : st r.toNatClampNeg = 2
  · refine ⟨hr, fun x ex => br_f (by rw [ex]; exact fun c => (dr_isDone hs).mp c z) fun l el => ⟨hr, fun R eR e ee => ?_⟩⟩
    have el' : l = len r.toNatClampNeg := by rw [el, ex]; exact dr_Slen hs
    refine ⟨hr, br_t z ⟨hr, fun l2 el2 => ⟨hr, fun A eA => ⟨hr, fun L eL => ⟨hr, fun S eS e2 ee2 => ⟨el2.trans el'.symm, ?_⟩⟩⟩⟩⟩⟩
    rw [eR, ee, eA, eL, eS, ee2, dr_nc, dr_n0]
    exact dr_mk hp hd (dr_in _) (dr_Hu H _ dr_S0)
  · refine ⟨hr, fun x ex => br_t (by rw [ex]; exact (dr_isDone hs).mpr z) ?_⟩
    exact ⟨hr, br_f z ⟨rfl, dr_mk hp hd hr H⟩⟩
theorem i_vc_raw {k : Nat} {u : SX} {v : SY} (I : i_Rel k u v) (hk : k + 3 ≤ 1536) (v1 : Int32) : wpX_raw (fun r => wpY_raw (fun r' => r' = r ∧ i_Rel (k + 3) u v) v v1) u v1 := by
  obtain ⟨p, d, r, ring, addr, len, st, rfl, rfl, hp, hd, hr, H⟩ := I
  have hi := dr_in v1
  have hs := H (v1 &&& 3).toNatClampNeg
  have M : i_Rel (k + 3) (p, d, r, ring) (p, d, r, addr, len, st) := dr_mk hp hd hr H
  refine ⟨hi, nm_e ⟨hi, ⟨hi, fun q eq => ⟨hi, ?_⟩⟩⟩⟩
  rcases hs.2 with ⟨e, f⟩ | ⟨e, f⟩ | ⟨e, f⟩
  · have n1 : ¬ st (v1 &&& 3).toNatClampNeg = 1 := by rw [e]; decide
    have n2 : ¬ st (v1 &&& 3).toNatClampNeg = 2 := by rw [e]; decide
    exact br_f n1 ⟨hi, br_f n2 ⟨eq.trans f.symm, M⟩⟩
  · have n2 : ¬ st (v1 &&& 3).toNatClampNeg = 2 := by rw [e]; decide
    exact br_t e fun y ey => ⟨hi, br_f n2 ⟨by rw [ey, eq, f]; rfl, M⟩⟩
  · have n1 : ¬ st (v1 &&& 3).toNatClampNeg = 1 := by rw [e]; decide
    exact br_f n1 ⟨hi, br_t e fun y ey => ⟨by rw [ey, eq, f]; rfl, M⟩⟩
end
