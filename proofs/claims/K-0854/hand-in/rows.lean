section
/-! Rows of the kit to paste: upd, numbers, masks, bytes -/
theorem pk_us {f : Nat → Int32} {k : Nat} {x : Int32} : upd f k x k = x := if_pos rfl
theorem pk_un {f : Nat → Int32} {k j : Nat} {x : Int32} (h : j ≠ k) : upd f k x j = f j := if_neg h
theorem pk_sub {a b : Nat} (h : b ≤ a) : nI a - nI b = nI (a - b) := by
  obtain ⟨c, rfl⟩ : ∃ c, a = c + b := ⟨a - b, by omega⟩
  rw [← nI_add, Int32.add_sub_cancel, Nat.add_sub_cancel]
theorem pk_mul (a b : Nat) : nI a * nI b = nI (a * b) := (Int32.ofNat_mul a b).symm
theorem pk_tn {n : Nat} (h : n < 2 ^ 32) : (nI n).toBitVec.toNat = n := Nat.mod_eq_of_lt h
theorem pk_and (x : Int32) {m : Int32} (k : Nat) (hm : m.toBitVec.toNat = 2 ^ k - 1) : x &&& m = nI (x.toBitVec.toNat % 2 ^ k) := by
  apply Int32.toBitVec_inj.mp
  apply BitVec.eq_of_toNat_eq
  rw [Int32.toBitVec_and, BitVec.toNat_and, hm, Nat.and_two_pow_sub_one_eq_mod]
  show _ = (BitVec.ofNat 32 _).toNat
  rw [BitVec.toNat_ofNat]
  exact (Nat.mod_eq_of_lt (Nat.lt_of_le_of_lt (Nat.mod_le _ _) x.toBitVec.isLt)).symm
theorem pk_andE (x : Int32) {m : Int32} (k : Nat) (hm : m.toBitVec.toNat = 2 ^ k - 1) : ∃ j : Nat, j < 2 ^ k ∧ x &&& m = nI j := ⟨_, Nat.mod_lt _ (Nat.two_pow_pos k), pk_and x k hm⟩
theorem pk_andIn (x : Int32) {m : Int32} (k : Nat) (hm : m.toBitVec.toNat = 2 ^ k - 1) (hk : k ≤ 30) : vp_in (x &&& m) (2 ^ k) := by
  obtain ⟨j, hj, e⟩ := pk_andE x k hm
  rw [e]
  exact vp_in_nI hj (Nat.lt_of_le_of_lt (Nat.pow_le_pow_right (by decide) hk) (by decide))
theorem pk_vb (z : Int32) : vp_nar .byte z.toInt8.toInt32 = z.toInt8.toInt32 := by rw [vp_nar_byte]; simp
end
section
/-! GOST round: the pure facts (masks, indices) and the loops of both sides in lockstep -/
/-- the mask 15 keeps a nibble -/
theorem gr_nib (x : Int32) : (x &&& 15) &&& 15 = x &&& 15 := by
  rw [Int32.and_assoc]
  exact congrArg (x &&& ·) (by decide)
/-- the byte cast keeps a nibble -/
theorem gr_b (x : Int32) : (x &&& 15).toInt8.toInt32 = x &&& 15 := by
  obtain ⟨j, hj, e⟩ := pk_andE x (m := 15) 4 (by decide)
  rw [e]
  have h := nI_toInt (n := j) (by omega)
  exact lg_i2b_small (by rw [h]; omega) (by rw [h]; omega)
/-- the byte store keeps a nibble -/
theorem gr_vb (x : Int32) : vp_nar .byte (x &&& 15).toInt8.toInt32 = x &&& 15 := by rw [pk_vb, gr_b]
/-- a zero over zeros -/
theorem gr_z (k : Nat) : upd (fun _ => 0) k 0 = fun _ => 0 := by
  funext j
  by_cases e : j = k
  · subst e; exact pk_us
  · exact pk_un e
/-- a nibble stored among nibbles -/
theorem gr_upd {R : Nat → Int32} (h : ∀ j, R j &&& 15 = R j) (k : Nat) (x : Int32) : ∀ j, upd R k (x &&& 15) j &&& 15 = upd R k (x &&& 15) j := by
  intro j
  by_cases e : j = k
  · subst e; rw [pk_us]; exact gr_nib x
  · rw [pk_un e]; exact h j
theorem gr_16 (i j : Nat) : nI i * 16 + nI j = nI (i * 16 + j) := by
  rw [show (16 : Int32) = nI 16 from rfl, pk_mul, nI_add]
/-- box's index -/
theorem gr_in {x y : Int32} (h0 : ¬ x < 0) (h7 : x ≤ 7) (g0 : ¬ y < 0) (g15 : y ≤ 15) : vp_in ((x * 16) + y) 128 := by
  obtain ⟨i, hi, rfl⟩ := nI_of2 (n := 7) (by decide) h0 h7
  obtain ⟨j, hj, rfl⟩ := nI_of2 (n := 15) (by decide) g0 g15
  rw [gr_16]
  exact vp_in_nI (by omega) (by omega)
/-- the key's index, forwards and backwards -/
theorem gr_kf (x : Int32) : vp_in (x &&& 7) 8 := pk_andIn x 3 (by decide) (by decide)
theorem gr_kb (x : Int32) : vp_in (7 - (x &&& 7)) 8 := by
  obtain ⟨j, hj, e⟩ := pk_andE x (m := 7) 3 (by decide)
  rw [e, show (7 : Int32) = nI 7 from rfl, pk_sub (by omega)]
  exact vp_in_nI (by omega) (by omega)
/-- the row's index -/
theorem gr_ix {j : Nat} (hj : j < 8) (z : Int32) : vp_in ((nI j * 16) + (z &&& 15)) 128 := by
  obtain ⟨i, hi, e⟩ := pk_andE z (m := 15) 4 (by decide)
  rw [e, gr_16]
  exact vp_in_nI (by omega) (by omega)
/-- the component's second loop writes zeros over zeros -/
theorem gr_x62 {post : SX → Prop} {a b : Int32} {K : Nat → Int32} (h : post (a, b, K, fun _ => 0)) : ∀ d j : Nat, j + d = 128 → wX_init_62 post a b (d + 1) (nI j) K (fun _ => 0) := by
  intro d
  induction d with
  | zero =>
    intro j hj
    have g : (128 : Int32) ≤ nI j := nI_le (a := 128) (by omega) (by omega)
    exact br_t g h
  | succ d ih =>
    intro j hj
    have g : ¬ (128 : Int32) ≤ nI j := nI_ge (b := 128) (by omega) (by omega)
    have hi : vp_in (nI j) 128 := vp_in_nI (by omega) (by omega)
    exact br_f g ⟨hi, nm_r (gr_z _) (nm_r (nI_1 j) (ih (j + 1) (by omega)))⟩
/-- the keys: both constructors' loops give one key -/
theorem gr_init (s a b : Int32) : ∀ (d j : Nat) (K Z : Nat → Int32), j + d = 8 → ∃ K' : Nat → Int32, (∀ post : SX → Prop, (∃ n, wX_init_62 post a b n 0 K' Z) → wX_init_33 post s a b (d + 1) (nI j) K Z) ∧ (∀ post : SY → Prop, post (a, b, K', Z) → wY_init_23 post s a b (d + 1) (nI j) K Z) := by
  intro d
  induction d with
  | zero =>
    intro j K Z hj
    have g : (8 : Int32) ≤ nI j := nI_le (a := 8) (by omega) (by omega)
    exact ⟨K, fun _ hp => br_t g hp, fun _ hp => br_t g hp⟩
  | succ d ih =>
    intro j K Z hj
    have g : ¬ (8 : Int32) ≤ nI j := nI_ge (b := 8) (by omega) (by omega)
    have hi : vp_in (nI j) 8 := vp_in_nI (by omega) (by omega)
    obtain ⟨K', hX, hY⟩ := ih (j + 1) (upd K (nI j).toNatClampNeg ((s * ((2 * nI j) + 1)) + nI j)) Z (by omega)
    exact ⟨K', fun post hp => br_f g ⟨hi, nm_e (nm_r (nI_1 j) (hX post hp))⟩, fun post hp => br_f g ⟨hi, nm_e (nm_r (nI_1 j) (hY post hp))⟩⟩
/-- the round: both loops over the nibbles give one answer -/
theorem gr_loop (s a b : Int32) (K R : Nat → Int32) (h : ∀ j, R j &&& 15 = R j) : ∀ (d j : Nat) (w : Int32), j + d = 8 → ∃ r : Int32, (∀ post : Int32 → SX → Prop, post r (r, a, K, R) → wX_round_46 post s a b K R (d + 1) w (nI j)) ∧ (∀ post : Int32 → SY → Prop, post r (r, a, K, R) → wY_round_42 post s a b K R (d + 1) w (nI j)) := by
  intro d
  induction d with
  | zero =>
    intro j w hj
    have g : (8 : Int32) ≤ nI j := nI_le (a := 8) (by omega) (by omega)
    exact ⟨((w <<< ((11 : Int32) &&& 31)) ||| ((w.toUInt32 >>> ((21 : Int32).toUInt32 &&& Int32.toUInt32 31)).toInt32)) ^^^ b, fun post hp => br_t g (nm_e (nm_e hp)), fun post hp => br_t g (nm_e hp)⟩
  | succ d ih =>
    intro j w hj
    have g : ¬ (8 : Int32) ≤ nI j := nI_ge (b := 8) (by omega) (by omega)
    have hi := gr_ix (j := j) (by omega) ((s.toUInt32 >>> ((4 * nI j).toUInt32 &&& Int32.toUInt32 31)).toInt32)
    have e : w ||| (((R ((nI j * 16) + (((s.toUInt32 >>> ((4 * nI j).toUInt32 &&& Int32.toUInt32 31)).toInt32) &&& 15)).toNatClampNeg) &&& 15) <<< ((4 * nI j) &&& 31)) = w ||| ((R ((nI j * 16) + (((s.toUInt32 >>> ((4 * nI j).toUInt32 &&& Int32.toUInt32 31)).toInt32) &&& 15)).toNatClampNeg) <<< ((4 * nI j) &&& 31)) := by rw [h]
    obtain ⟨r, hX, hY⟩ := ih (j + 1) (w ||| ((R ((nI j * 16) + (((s.toUInt32 >>> ((4 * nI j).toUInt32 &&& Int32.toUInt32 31)).toInt32) &&& 15)).toNatClampNeg) <<< ((4 * nI j) &&& 31))) (by omega)
    exact ⟨r, fun post hp => br_f g (nm_e ⟨hi, nm_r e (nm_r (nI_1 j) (hX post hp))⟩), fun post hp => br_f g ⟨hi, nm_e (nm_r (nI_1 j) (hY post hp))⟩⟩
end
section
/-! What is owed -/
/-- one state on both sides, and every entry of the rows is a nibble -/
def i_Rel (k : Nat) (u : SX) (v : SY) : Prop := v = u ∧ ∀ j, u.2.2.2 j &&& 15 = u.2.2.2 j
theorem i_up {k : Nat} {u : SX} {v : SY} (h : i_Rel k u v) : i_Rel (k + 4) u v := h
theorem i_vc0 (k0 : Int32) : wpX_init (fun u => wpY_init (fun v => i_Rel 1 u v) k0) k0 := by
  obtain ⟨K, hX, hY⟩ := gr_init k0 0 0 8 0 (fun _ => 0) (fun _ => 0) rfl
  rw [nI_0] at hX hY
  refine ⟨9, hX _ ⟨129, ?_⟩⟩
  refine gr_x62 ?_ 128 0 rfl
  exact ⟨9, hY _ ⟨rfl, fun _ => (by decide : (0 : Int32) &&& 15 = 0)⟩⟩
theorem i_vc_box {k : Nat} {u : SX} {v : SY} (I : i_Rel k u v) (hk : k + 4 ≤ 2049) (v1 : Int32) (v2 : Int32) (v3 : Int32) : wpX_box (fun r u' => wpY_box (fun r' v' => r' = r ∧ i_Rel (k + 4) u' v') v v1 v2 v3) u v1 v2 v3 := by
  obtain ⟨e, h⟩ := I
  obtain ⟨a, b, K, R⟩ := u
  subst e
  by_cases h0 : v1 < 0
  · exact br_t h0 (br_t h0 ⟨rfl, rfl, h⟩)
  by_cases h7 : v1 ≤ 7
  · by_cases g0 : v2 < 0
    · exact br_f h0 (br_t h7 (br_t g0 (br_f h0 (br_t h7 (br_t g0 ⟨rfl, rfl, h⟩)))))
    by_cases g15 : v2 ≤ 15
    · have hi := gr_in h0 h7 g0 g15
      refine br_f h0 (br_t h7 (br_f g0 (br_t g15 (nm_e ⟨hi, nm_e ?_⟩))))
      refine br_f h0 (br_t h7 (br_f g0 (br_t g15 ⟨hi, nm_r (congrArg (upd R _) (gr_vb v3)) ?_⟩)))
      exact ⟨gr_b v3, rfl, gr_upd h _ v3⟩
    · exact br_f h0 (br_t h7 (br_f g0 (br_f g15 (br_f h0 (br_t h7 (br_f g0 (br_f g15 ⟨rfl, rfl, h⟩)))))))
  · exact br_f h0 (br_f h7 (br_f h0 (br_f h7 ⟨rfl, rfl, h⟩)))
theorem i_vc_load {k : Nat} {u : SX} {v : SY} (I : i_Rel k u v) (hk : k + 4 ≤ 2049) (v1 : Int32) (v2 : Int32) : wpX_load (fun r u' => wpY_load (fun r' v' => r' = r ∧ i_Rel (k + 4) u' v') v v1 v2) u v1 v2 := by
  obtain ⟨e, h⟩ := I
  obtain ⟨a, b, K, R⟩ := u
  subst e
  exact And.intro rfl ⟨rfl, h⟩
theorem i_vc_round {k : Nat} {u : SX} {v : SY} (I : i_Rel k u v) (hk : k + 4 ≤ 2049) (v1 : Int32) : wpX_round (fun r u' => wpY_round (fun r' v' => r' = r ∧ i_Rel (k + 4) u' v') v v1) u v1 := by
  obtain ⟨e, h⟩ := I
  obtain ⟨a, b, K, R⟩ := u
  subst e
  intro x ex
  subst ex
  by_cases c : 24 ≤ v1 &&& 31
  · have hi := gr_kb (v1 &&& 31)
    obtain ⟨r, hX, hY⟩ := gr_loop (a + K (7 - (v1 &&& 31 &&& 7)).toNatClampNeg) a b K R h 8 0 0 rfl
    rw [nI_0] at hX hY
    refine br_t c (nm_e (And.intro hi (nm_e ⟨9, hX _ ?_⟩)))
    intro y ey
    subst ey
    exact br_t c ⟨hi, nm_e ⟨9, hY _ ⟨rfl, rfl, h⟩⟩⟩
  · have hi := gr_kf (v1 &&& 31)
    obtain ⟨r, hX, hY⟩ := gr_loop (a + K (v1 &&& 31 &&& 7).toNatClampNeg) a b K R h 8 0 0 rfl
    rw [nI_0] at hX hY
    refine br_f c (nm_e (And.intro hi (nm_e ⟨9, hX _ ?_⟩)))
    intro y ey
    subst ey
    exact br_f c ⟨hi, nm_e ⟨9, hY _ ⟨rfl, rfl, h⟩⟩⟩
theorem i_vc_half {k : Nat} {u : SX} {v : SY} (I : i_Rel k u v) (hk : k + 4 ≤ 2049) (v1 : Int32) : wpX_half (fun r => wpY_half (fun r' => r' = r ∧ i_Rel (k + 4) u v) v v1) u v1 := by
  obtain ⟨e, h⟩ := I
  obtain ⟨a, b, K, R⟩ := u
  subst e
  by_cases c : (v1 &&& 1) = 0
  · exact br_t c (br_t c ⟨rfl, rfl, h⟩)
  · exact br_f c (br_f c ⟨rfl, rfl, h⟩)
end
