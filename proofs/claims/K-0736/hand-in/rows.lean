section
/-! rows taken from kit/rows/PURE-ROWS: stores, masks, shifts, narrowing -/
theorem pk_us {f : Nat → Int32} {k : Nat} {x : Int32} : upd f k x k = x := if_pos rfl
theorem pk_un {f : Nat → Int32} {k j : Nat} {x : Int32} (h : j ≠ k) : upd f k x j = f j := if_neg h
theorem pk_tn {n : Nat} (h : n < 2 ^ 32) : (nI n).toBitVec.toNat = n := Nat.mod_eq_of_lt h
theorem pk_and (x : Int32) {m : Int32} (k : Nat) (hm : m.toBitVec.toNat = 2 ^ k - 1) : x &&& m = nI (x.toBitVec.toNat % 2 ^ k) := by
  apply Int32.toBitVec_inj.mp
  apply BitVec.eq_of_toNat_eq
  rw [Int32.toBitVec_and, BitVec.toNat_and, hm, Nat.and_two_pow_sub_one_eq_mod]
  show _ = (BitVec.ofNat 32 _).toNat
  rw [BitVec.toNat_ofNat]
  exact (Nat.mod_eq_of_lt (Nat.lt_of_le_of_lt (Nat.mod_le _ _) x.toBitVec.isLt)).symm
theorem pk_andN {n : Nat} (h : n < 2 ^ 32) {m : Int32} (k : Nat) (hm : m.toBitVec.toNat = 2 ^ k - 1) : nI n &&& m = nI (n % 2 ^ k) := by
  rw [pk_and _ k hm, pk_tn h]
theorem pk_shl (a s : Int32) (k : Nat) (hs : (s.toBitVec.smod 32).toNat = k) : (a <<< s).toBitVec.toNat = a.toBitVec.toNat * 2 ^ k % 2 ^ 32 := by
  show (a.toBitVec <<< (s.toBitVec.smod 32).toNat).toNat = _
  rw [hs, BitVec.toNat_shiftLeft, Nat.shiftLeft_eq]
theorem pk_shlN {n : Nat} (s : Int32) (k : Nat) (hs : (s.toBitVec.smod 32).toNat = k) (h : n * 2 ^ k < 2 ^ 32) : nI n <<< s = nI (n * 2 ^ k) := by
  apply Int32.toBitVec_inj.mp
  apply BitVec.eq_of_toNat_eq
  have hn : n < 2 ^ 32 := Nat.lt_of_le_of_lt (Nat.le_mul_of_pos_right n (Nat.two_pow_pos k)) h
  rw [pk_shl _ _ k hs, pk_tn hn, pk_tn h, Nat.mod_eq_of_lt h]
theorem pk_ushr (x s : Int32) (k : Nat) (hs : ((s.toUInt32 &&& Int32.toUInt32 31).toBitVec % 32).toNat = k) : (x.toUInt32 >>> (s.toUInt32 &&& Int32.toUInt32 31)).toInt32.toBitVec.toNat = x.toBitVec.toNat / 2 ^ k := by
  have e : (x.toUInt32 >>> (s.toUInt32 &&& Int32.toUInt32 31)).toInt32.toBitVec = x.toBitVec >>> k := by
    rw [← hs]
    exact UInt32.toBitVec_shiftRight _ _
  rw [e, BitVec.toNat_ushiftRight, Nat.shiftRight_eq_div_pow]
theorem pk_ushrN {n : Nat} (hn : n < 2 ^ 32) (s : Int32) (k : Nat) (hs : ((s.toUInt32 &&& Int32.toUInt32 31).toBitVec % 32).toNat = k) : ((nI n).toUInt32 >>> (s.toUInt32 &&& Int32.toUInt32 31)).toInt32 = nI (n / 2 ^ k) := by
  apply Int32.toBitVec_inj.mp
  apply BitVec.eq_of_toNat_eq
  rw [pk_ushr _ s k hs, pk_tn hn, pk_tn (Nat.lt_of_le_of_lt (Nat.div_le_self _ _) hn)]
theorem pk_charN {q : Nat} (hq : q < 65536) : narrow .char (.int (nI q)) = .int (nI q) ∧ fits .char (.int (nI q)) = true := by
  constructor
  · have e : (nI q).toUInt32.toUInt16.toUInt32.toInt32 = nI q := by
      apply Int32.toBitVec_inj.mp
      apply BitVec.eq_of_toNat_eq
      show (nI q).toUInt32.toUInt16.toUInt32.toNat = q % 2 ^ 32
      rw [UInt16.toNat_toUInt32, UInt32.toNat_toUInt16, show (nI q).toUInt32.toNat = q % 2 ^ 32 from rfl]
      omega
    exact congrArg Value.int e
  · have a : (0 : Int32) ≤ nI q := nI_pos' (by omega)
    have b : nI q ≤ 65535 := nI_le (b := 65535) (by omega) (by decide)
    show (decide ((0 : Int32) ≤ nI q) && decide (nI q ≤ 65535)) = true
    rw [decide_eq_true a, decide_eq_true b]
    rfl
theorem pk_char (x : Int32) : (x.toUInt32 % 65536).toInt32 = nI (x.toBitVec.toNat % 65536) := by
  apply Int32.toBitVec_inj.mp
  apply BitVec.eq_of_toNat_eq
  rw [pk_tn (by omega)]
  show (x.toUInt32 % 65536).toNat = _
  rw [UInt32.toNat_mod]
  rfl
theorem pk_nc (x : Int32) : narrow .char (.int (x.toUInt32 % 65536).toInt32) = .int (x.toUInt32 % 65536).toInt32 := by
  rw [pk_char]
  exact (pk_charN (Nat.mod_lt _ (by decide))).1
theorem pk_vs (z : Int32) : vp_nar .short z.toInt16.toInt32 = z.toInt16.toInt32 := by rw [vp_nar_short]; simp
theorem pk_vc (z : Int32) : vp_nar .char (z.toUInt32 % 65536).toInt32 = (z.toUInt32 % 65536).toInt32 := Value.int.inj (pk_nc z)
end
section
/-! one packed entry: offset o, state t, length n -/
theorem ip_or (a b : Nat) : nI a ||| nI b = nI (a ||| b) := by
  apply Int32.toBitVec_inj.1
  show BitVec.ofNat 32 a ||| BitVec.ofNat 32 b = BitVec.ofNat 32 (a ||| b)
  apply BitVec.eq_of_getLsbD_eq
  intro i hi
  simp [hi]
def ip_pk (o t n : Nat) : Nat := n * 131072 + t * 32768 + o
theorem ip_off {o t n : Nat} (ho : o < 32768) (ht : t < 4) (hn : n < 32768) : nI (ip_pk o t n) &&& 32767 = nI o := by
  unfold ip_pk
  rw [pk_andN (by omega) 15 (by decide)]
  exact congrArg nI (by omega)
theorem ip_st {o t n : Nat} (ho : o < 32768) (ht : t < 4) (hn : n < 32768) : ((nI (ip_pk o t n)).toUInt32 >>> ((15 : Int32).toUInt32 &&& Int32.toUInt32 31)).toInt32 &&& 3 = nI t := by
  unfold ip_pk
  rw [pk_ushrN (by omega) 15 15 (by decide), pk_andN (by omega) 2 (by decide)]
  exact congrArg nI (by omega)
theorem ip_len {o t n : Nat} (ho : o < 32768) (ht : t < 4) (hn : n < 32768) : ((nI (ip_pk o t n)).toUInt32 >>> ((17 : Int32).toUInt32 &&& Int32.toUInt32 31)).toInt32 &&& 32767 = nI n := by
  unfold ip_pk
  rw [pk_ushrN (by omega) 17 17 (by decide), pk_andN (by omega) 15 (by decide)]
  exact congrArg nI (by omega)
theorem ip_orN {o n : Nat} (ho : o < 32768) : (n * 2 ^ 17 ||| 32768) ||| o = ip_pk o 1 n := by
  have h1 : n * 2 ^ 17 ||| 32768 = 2 ^ 17 * n + 32768 := by
    rw [Nat.two_pow_add_eq_or_of_lt (by decide), Nat.mul_comm]
  have h2 : 2 ^ 15 * (n * 4 + 1) ||| o = 2 ^ 15 * (n * 4 + 1) + o := (Nat.two_pow_add_eq_or_of_lt ho _).symm
  have h3 : 2 ^ 17 * n + 32768 = 2 ^ 15 * (n * 4 + 1) := by omega
  rw [h1, h3, h2]
  unfold ip_pk
  omega
theorem ip_set {o n : Nat} (ho : o < 32768) (hn : n < 32768) : ((nI n <<< ((17 : Int32) &&& 31)) ||| 32768) ||| nI o = nI (ip_pk o 1 n) := by
  rw [pk_shlN _ 17 (by decide) (by omega)]
  show (nI (n * 2 ^ 17) ||| nI 32768) ||| nI o = _
  rw [ip_or, ip_or, ip_orN ho]
theorem ip_kill {o t n : Nat} (ho : o < 32768) (ht : t < 4) (hn : n < 32768) : (nI (ip_pk o t n) &&& 32767) ||| 98304 = nI (ip_pk o 3 0) := by
  rw [ip_off ho ht hn]
  show nI o ||| nI 98304 = _
  have h : 2 ^ 15 * 3 ||| o = 2 ^ 15 * 3 + o := (Nat.two_pow_add_eq_or_of_lt ho _).symm
  rw [ip_or, Nat.or_comm, show (98304 : Nat) = 2 ^ 15 * 3 from rfl, h]
  unfold ip_pk
  exact congrArg nI (by omega)
theorem ip_short {o : Nat} (ho : o < 32768) : vp_nar .short (nI o).toInt16.toInt32 = nI o := by
  have e : (nI o).toInt = (o : Int) := nI_toInt (by omega)
  rw [pk_vs, lg_i2s_small (by rw [e]; omega) (by rw [e]; omega)]
theorem ip_char {n : Nat} (hn : n < 32768) : vp_nar .char ((nI n).toUInt32 % 65536).toInt32 = nI n := by
  rw [pk_vc, pk_char, pk_tn (by omega), Nat.mod_eq_of_lt (by omega)]
theorem ip_b1 : vp_nar .byte 1 = nI 1 := by rw [vp_nar_byte]; decide
theorem ip_c0 : vp_nar .char 0 = nI 0 := by rw [vp_nar_char]; decide
theorem ip_b3 : vp_nar .byte ((nI 1 ||| 2).toInt8.toInt32) = nI 3 := by rw [vp_nar_byte]; decide
/-- the packed int x and the reference's offset f, length l, state s say the same -/
def ip_At (x f l s : Int32) : Prop := ∃ o t n : Nat, o < 32768 ∧ t < 4 ∧ n < 32768 ∧ x = nI (ip_pk o t n) ∧ f = nI o ∧ l = nI n ∧ s = nI t
theorem ip_at_0 : ip_At 0 0 0 0 := ⟨0, 0, 0, by decide, by decide, by decide, by decide, by decide, by decide, by decide⟩
theorem ip_at_set {o n : Nat} (ho : o < 32768) (hn : n < 32768) : ip_At (((nI n <<< ((17 : Int32) &&& 31)) ||| 32768) ||| nI o) (vp_nar .short (nI o).toInt16.toInt32) (vp_nar .char ((nI n).toUInt32 % 65536).toInt32) (vp_nar .byte 1) :=
  ⟨o, 1, n, ho, by decide, hn, ip_set ho hn, ip_short ho, ip_char hn, ip_b1⟩
theorem ip_at_kill {o n : Nat} (ho : o < 32768) (hn : n < 32768) : ip_At ((nI (ip_pk o 1 n) &&& 32767) ||| 98304) (nI o) (vp_nar .char 0) (vp_nar .byte ((nI 1 ||| 2).toInt8.toInt32)) :=
  ⟨o, 3, 0, ho, by decide, by decide, ip_kill ho (by decide) hn, rfl, ip_c0, ip_b3⟩
theorem ip_upd {a f l s : Nat → Int32} (I : ∀ j, ip_At (a j) (f j) (l j) (s j)) (i : Nat) {x y z w : Int32} (h : ip_At x y z w) (j : Nat) : ip_At (upd a i x j) (upd f i y j) (upd l i z j) (upd s i w j) := by
  by_cases e : j = i
  · subst e
    rw [pk_us, pk_us, pk_us, pk_us]
    exact h
  · rw [pk_un e, pk_un e, pk_un e, pk_un e]
    exact I j
theorem ip_upd3 {a f l s : Nat → Int32} (I : ∀ j, ip_At (a j) (f j) (l j) (s j)) (i : Nat) {x z w : Int32} (h : ip_At x (f i) z w) (j : Nat) : ip_At (upd a i x j) (f j) (upd l i z j) (upd s i w j) := by
  by_cases e : j = i
  · subst e
    rw [pk_us, pk_us, pk_us]
    exact h
  · rw [pk_un e, pk_un e, pk_un e]
    exact I j
theorem ip_in {x : Int32} (h0 : ¬ x < 0) (h7 : x ≤ 7) : vp_in x 8 := by
  obtain ⟨j, hj, rfl⟩ := nI_of2 (n := 7) (by decide) h0 h7
  exact vp_in_nI (by omega) (by decide)
end
section
/-- entry by entry: the packed int holds what the reference's three arrays hold -/
def i_Rel (_ : Nat) (u : SX) (v : SY) : Prop := ∀ j, ip_At (u j) (v.1 j) (v.2.1 j) (v.2.2 j)
theorem i_up {k : Nat} {u : SX} {v : SY} (h : i_Rel k u v) : i_Rel (k + 4) u v := h
theorem i_vc0 : wpX_init (fun u => wpY_init (fun v => i_Rel 0 u v)) := fun _ => ip_at_0
theorem i_vc_set {k : Nat} {u : SX} {v : SY} (I : i_Rel k u v) (hk : k + 4 ≤ 2048) (v1 : Int32) (v2 : Int32) (v3 : Int32) : wpX_set (fun r u' => wpY_set (fun r' v' => r' = r ∧ i_Rel (k + 4) u' v') v v1 v2 v3) u v1 v2 v3 := by
  obtain ⟨f, l, s⟩ := v
  by_cases h0 : v1 < 0
  · exact br_t h0 (br_t h0 ⟨rfl, I⟩)
  by_cases h7 : v1 ≤ 7
  rotate_left
  · exact br_f h0 (br_f h7 (br_f h0 (br_f h7 ⟨rfl, I⟩)))
  have hi : vp_in v1 8 := ip_in h0 h7
  by_cases a0 : v2 < 0
  · exact br_f h0 (br_t h7 (br_t a0 (br_f h0 (br_t h7 (br_t a0 ⟨rfl, I⟩)))))
  by_cases a7 : v2 ≤ 32767
  rotate_left
  · exact br_f h0 (br_t h7 (br_f a0 (br_f a7 (br_f h0 (br_t h7 (br_f a0 (br_f a7 ⟨rfl, I⟩)))))))
  by_cases b0 : v3 < 0
  · exact br_f h0 (br_t h7 (br_f a0 (br_t a7 (br_t b0 (br_f h0 (br_t h7 (br_f a0 (br_t a7 (br_t b0 ⟨rfl, I⟩)))))))))
  by_cases b7 : v3 ≤ 32767
  rotate_left
  · exact br_f h0 (br_t h7 (br_f a0 (br_t a7 (br_f b0 (br_f b7 (br_f h0 (br_t h7 (br_f a0 (br_t a7 (br_f b0 (br_f b7 ⟨rfl, I⟩)))))))))))
  obtain ⟨o, ho, rfl⟩ := nI_of2 (n := 32767) (by decide) a0 a7
  obtain ⟨n, hn, rfl⟩ := nI_of2 (n := 32767) (by decide) b0 b7
  refine br_f h0 (br_t h7 (br_f a0 (br_t a7 (br_f b0 (br_t b7 ⟨hi, fun a ea => ?_⟩)))))
  refine br_f h0 (br_t h7 (br_f a0 (br_t a7 (br_f b0 (br_t b7 ⟨hi, fun b eb => ⟨hi, fun c ec => ⟨hi, fun d ed => ⟨rfl, ?_⟩⟩⟩⟩)))))
  subst ea eb ec ed
  exact ip_upd I _ (ip_at_set (by omega) (by omega))
theorem i_vc_kill {k : Nat} {u : SX} {v : SY} (I : i_Rel k u v) (hk : k + 4 ≤ 2048) (v1 : Int32) : wpX_kill (fun r u' => wpY_kill (fun r' v' => r' = r ∧ i_Rel (k + 4) u' v') v v1) u v1 := by
  obtain ⟨f, l, s⟩ := v
  by_cases h0 : v1 < 0
  · exact br_t h0 (br_t h0 ⟨rfl, I⟩)
  by_cases h7 : v1 ≤ 7
  rotate_left
  · exact br_f h0 (br_f h7 (br_f h0 (br_f h7 ⟨rfl, I⟩)))
  have hi : vp_in v1 8 := ip_in h0 h7
  obtain ⟨o, t, n, ho, ht, hn, e1, e2, e3, e4⟩ := I v1.toNatClampNeg
  dsimp only at e2 e3 e4
  refine br_f h0 (br_t h7 ⟨hi, fun x ex => ?_⟩)
  have ex' : x = nI (ip_pk o t n) := ex.trans e1
  subst ex'
  by_cases t1 : t = 1
  · subst t1
    refine br_t (ip_st ho ht hn) (fun y ey => ⟨hi, fun a ea => ?_⟩)
    have ey' : y = nI n := ey.trans (ip_len ho ht hn)
    refine br_f h0 (br_t h7 ⟨hi, br_t e4 ⟨hi, fun z ez => ⟨hi, fun b eb => ⟨hi, hi, fun c ec => ⟨(ez.trans e3).trans ey'.symm, ?_⟩⟩⟩⟩⟩)
    rw [e4] at ec
    subst ea eb ec
    refine ip_upd3 I _ ?_
    dsimp only
    rw [e2]
    exact ip_at_kill ho hn
  · have hx : ¬ ((nI (ip_pk o t n)).toUInt32 >>> ((15 : Int32).toUInt32 &&& Int32.toUInt32 31)).toInt32 &&& 3 = 1 := by
      rw [ip_st ho ht hn]
      exact fun z => t1 ((nI_eq (b := 1) (by omega) (by decide)).mp z)
    have hy : ¬ s v1.toNatClampNeg = 1 := by
      rw [e4]
      exact fun z => t1 ((nI_eq (b := 1) (by omega) (by decide)).mp z)
    exact br_f hx (br_f h0 (br_t h7 ⟨hi, br_f hy ⟨rfl, I⟩⟩))
theorem i_vc_offsetOf {k : Nat} {u : SX} {v : SY} (I : i_Rel k u v) (hk : k + 4 ≤ 2048) (v1 : Int32) : wpX_offsetOf (fun r => wpY_offsetOf (fun r' => r' = r ∧ i_Rel (k + 4) u v) v v1) u v1 := by
  obtain ⟨f, l, s⟩ := v
  by_cases h0 : v1 < 0
  · exact br_t h0 (br_t h0 ⟨rfl, I⟩)
  by_cases h7 : v1 ≤ 7
  rotate_left
  · exact br_f h0 (br_f h7 (br_f h0 (br_f h7 ⟨rfl, I⟩)))
  have hi : vp_in v1 8 := ip_in h0 h7
  obtain ⟨o, t, n, ho, ht, hn, e1, e2, e3, e4⟩ := I v1.toNatClampNeg
  refine br_f h0 (br_t h7 ⟨hi, br_f h0 (br_t h7 ⟨hi, ?_, I⟩)⟩)
  rw [e1, ip_off ho ht hn]
  exact e2
theorem i_vc_stateOf {k : Nat} {u : SX} {v : SY} (I : i_Rel k u v) (hk : k + 4 ≤ 2048) (v1 : Int32) : wpX_stateOf (fun r => wpY_stateOf (fun r' => r' = r ∧ i_Rel (k + 4) u v) v v1) u v1 := by
  obtain ⟨f, l, s⟩ := v
  by_cases h0 : v1 < 0
  · exact br_t h0 (br_t h0 ⟨rfl, I⟩)
  by_cases h7 : v1 ≤ 7
  rotate_left
  · exact br_f h0 (br_f h7 (br_f h0 (br_f h7 ⟨rfl, I⟩)))
  have hi : vp_in v1 8 := ip_in h0 h7
  obtain ⟨o, t, n, ho, ht, hn, e1, e2, e3, e4⟩ := I v1.toNatClampNeg
  refine br_f h0 (br_t h7 ⟨hi, br_f h0 (br_t h7 ⟨hi, ?_, I⟩)⟩)
  rw [e1, ip_st ho ht hn]
  exact e4
theorem i_vc_lengthOf {k : Nat} {u : SX} {v : SY} (I : i_Rel k u v) (hk : k + 4 ≤ 2048) (v1 : Int32) : wpX_lengthOf (fun r => wpY_lengthOf (fun r' => r' = r ∧ i_Rel (k + 4) u v) v v1) u v1 := by
  obtain ⟨f, l, s⟩ := v
  by_cases h0 : v1 < 0
  · exact br_t h0 (br_t h0 ⟨rfl, I⟩)
  by_cases h7 : v1 ≤ 7
  rotate_left
  · exact br_f h0 (br_f h7 (br_f h0 (br_f h7 ⟨rfl, I⟩)))
  have hi : vp_in v1 8 := ip_in h0 h7
  obtain ⟨o, t, n, ho, ht, hn, e1, e2, e3, e4⟩ := I v1.toNatClampNeg
  refine br_f h0 (br_t h7 ⟨hi, br_f h0 (br_t h7 ⟨hi, ?_, I⟩)⟩)
  rw [e1, ip_len ho ht hn]
  exact e3
end
