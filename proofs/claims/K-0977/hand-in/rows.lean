section
/-! rows of kit/rows (starting texts): numbers, masks, narrow and fits of byte and char -/
theorem pk_tn {n : Nat} (h : n < 2 ^ 32) : (nI n).toBitVec.toNat = n := Nat.mod_eq_of_lt h
theorem pk_and (x : Int32) {m : Int32} (k : Nat) (hm : m.toBitVec.toNat = 2 ^ k - 1) : x &&& m = nI (x.toBitVec.toNat % 2 ^ k) := by
  apply Int32.toBitVec_inj.mp
  apply BitVec.eq_of_toNat_eq
  rw [Int32.toBitVec_and, BitVec.toNat_and, hm, Nat.and_two_pow_sub_one_eq_mod]
  show _ = (BitVec.ofNat 32 _).toNat
  rw [BitVec.toNat_ofNat]
  exact (Nat.mod_eq_of_lt (Nat.lt_of_le_of_lt (Nat.mod_le _ _) x.toBitVec.isLt)).symm
theorem pk_andE (x : Int32) {m : Int32} (k : Nat) (hm : m.toBitVec.toNat = 2 ^ k - 1) : ∃ j : Nat, j < 2 ^ k ∧ x &&& m = nI j := ⟨_, Nat.mod_lt _ (Nat.two_pow_pos k), pk_and x k hm⟩
theorem pk_nb (z : Int32) : narrow .byte (.int z.toInt8.toInt32) = .int z.toInt8.toInt32 := congrArg Value.int (by simp)
theorem pk_fb (r : Int32) : fits .byte (.int r.toInt8.toInt32) = true := by
  have ⟨a, b⟩ := lg_i2b_range r
  have h1 : (-128 : Int32).toInt = -128 := by decide
  have h2 : (127 : Int32).toInt = 127 := by decide
  simp only [fits, Bool.and_eq_true, decide_eq_true_eq, Int32.le_iff_toInt_le, h1, h2]
  omega
theorem pk_charN {q : Nat} (hq : q < 65536) : narrow .char (.int (nI q)) = .int (nI q) ∧ fits .char (.int (nI q)) = true := by
  constructor
  · have e : (nI q).toUInt32.toUInt16.toUInt32.toInt32 = nI q := by
      apply Int32.toBitVec_inj.mp
      apply BitVec.eq_of_toNat_eq
      show (nI q).toUInt32.toUInt16.toUInt32.toNat = q % 2 ^ 32
      rw [UInt16.toNat_toUInt32, UInt32.toNat_toUInt16, show (nI q).toUInt32.toNat = q % 2 ^ 32 from rfl]
      omega
    exact congrArg Value.int e
  · have a : (0 : Int32) ≤ nI q := nI_pos' (by omega)
    have b : nI q ≤ 65535 := nI_le (b := 65535) (by omega) (by decide)
    show (decide ((0 : Int32) ≤ nI q) && decide (nI q ≤ 65535)) = true
    rw [decide_eq_true a, decide_eq_true b]
    rfl
theorem pk_char (x : Int32) : (x.toUInt32 % 65536).toInt32 = nI (x.toBitVec.toNat % 65536) := by
  apply Int32.toBitVec_inj.mp
  apply BitVec.eq_of_toNat_eq
  rw [pk_tn (by omega)]
  show (x.toUInt32 % 65536).toNat = _
  rw [UInt32.toNat_mod]
  rfl
theorem pk_nc (x : Int32) : narrow .char (.int (x.toUInt32 % 65536).toInt32) = .int (x.toUInt32 % 65536).toInt32 := by
  rw [pk_char]
  exact (pk_charN (Nat.mod_lt _ (by decide))).1
theorem pk_fc (x : Int32) : fits .char (.int (x.toUInt32 % 65536).toInt32) = true := by
  rw [pk_char]
  exact (pk_charN (Nat.mod_lt _ (by decide))).2
theorem em_w (v : Int32) : ∃ w : Nat, w < 65536 ∧ (v.toUInt32 % 65536).toInt32 = nI w ∧ v &&& 65535 = nI w := by
  have hr := lw_u16_r v
  have h0 : (0 : Int32).toInt = 0 := by decide
  obtain ⟨w, h1, h2⟩ := nI_of (x := lw_u16 v) (by rw [Int32.lt_iff_toInt_lt]; omega)
  have h3 : (v.toUInt32 % 65536).toInt32 = nI w := h2
  rw [h2, nI_toInt h1] at hr
  exact ⟨w, by omega, h3, by rw [← lg_i2c_mask, ← lg_i2c_nf, h3]⟩
end
section
/-! the UART: the relation, the tables it rests on -/
/-- X's data at sample number c: the top (c + 1) / 3 - 1 bits of the byte m that Y has shifted so far -/
def ur_d (c m : Nat) : Nat := m / 2 ^ (9 - (c + 1) / 3)
/-- both idle (with one error count), or both in a frame at sample number c, 1 .. 28: Y's phase is c mod 3, its index (c + 1) / 3, its byte m -/
def i_Rel (_ : Nat) (u : SX) (v : SY) : Prop :=
  (∃ d p i s e : Int32, u = (0, d, e) ∧ v = (0, p, i, s, e)) ∨
  (∃ (c m : Nat) (s e : Int32), 1 ≤ c ∧ c ≤ 28 ∧ m < 256 ∧ s &&& 255 = nI m ∧ u = (nI c, nI (ur_d c m), e) ∧ v = (1, nI (c % 3), nI ((c + 1) / 3), s, e))
theorem i_up {k : Nat} {u : SX} {v : SY} (h : i_Rel k u v) : i_Rel (k + 2) u v := h
theorem i_vc0 : wpX_init (fun u => wpY_init (fun v => i_Rel 0 u v)) := Or.inl ⟨0, 0, 0, 0, 0, rfl, rfl⟩
theorem ur_tm : ∀ c, c < 28 → 1 ≤ c → c % 3 ≠ 1 → ¬ nI (c + 1) = 2 ∧ nI (c + 1) < 29 ∧ ¬ (nI (c + 1) - nI (c + 1) / 3 * 3) = 2 := by decide +kernel
theorem ur_tx : ∀ c, c < 28 → 4 ≤ c → c % 3 = 1 → ¬ nI (c + 1) = 2 ∧ nI (c + 1) < 29 ∧ (nI (c + 1) - nI (c + 1) / 3 * 3) = 2 ∧ (nI (c + 1) - 5) / 3 = nI ((c + 1) / 3 - 1) := by decide +kernel
theorem ur_ty : ∀ c, c < 28 → 4 ≤ c → c % 3 = 1 → ¬ nI ((c + 1) / 3) = 0 ∧ ¬ 8 < nI ((c + 1) / 3) ∧ (nI ((c + 1) / 3) + 1).toInt8.toInt32 = nI ((c + 1 + 1) / 3) := by decide +kernel
theorem ur_s0 : ∀ m, m < 256 → ((((nI m).toUInt32 >>> ((1 : Int32).toUInt32 &&& Int32.toUInt32 31)).toInt32) ||| 0).toInt8.toInt32 &&& 255 = nI (m / 2) := by decide +kernel
theorem ur_s1 : ∀ m, m < 256 → ((((nI m).toUInt32 >>> ((1 : Int32).toUInt32 &&& Int32.toUInt32 31)).toInt32) ||| 128).toInt8.toInt32 &&& 255 = nI (m / 2 + 128) := by decide +kernel
theorem ur_or : ∀ i, i < 8 → ∀ m, m < 256 → nI (m / 2 ^ (8 - i)) ||| ((1 : Int32) <<< (nI i &&& 31)) = nI ((m / 2 + 128) / 2 ^ (7 - i)) := by decide +kernel
theorem ur_255 : ∀ m, m < 256 → nI m &&& 255 = nI m := by decide +kernel
theorem ur_p0 : (0 : Int32).toInt8.toInt32 = nI 0 := by decide +kernel
theorem ur_p1 : (nI 0 + 1 : Int32).toInt8.toInt32 = nI 1 := by decide +kernel
theorem ur_p2 : (nI 1 + 1 : Int32).toInt8.toInt32 = nI 2 := by decide +kernel
/-- a low data bit leaves X's data as it is -/
theorem ur_low {c : Nat} (m : Nat) (h2 : c < 28) (h4 : 4 ≤ c) (h : c % 3 = 1) : ur_d (c + 1) (m / 2) = ur_d c m := by
  unfold ur_d
  have e : 9 - (c + 1) / 3 = (9 - (c + 1 + 1) / 3) + 1 := by omega
  rw [Nat.div_div_eq_div_mul, e, Nat.pow_succ, Nat.mul_comm]
/-- a high data bit sets X's next bit -/
theorem ur_high {c m : Nat} (h2 : c < 28) (h4 : 4 ≤ c) (h : c % 3 = 1) (hm : m < 256) : nI (ur_d c m) ||| ((1 : Int32) <<< (nI ((c + 1) / 3 - 1) &&& 31)) = nI (ur_d (c + 1) (m / 2 + 128)) := by
  have t := ur_or ((c + 1) / 3 - 1) (by omega) m hm
  have e1 : 8 - ((c + 1) / 3 - 1) = 9 - (c + 1) / 3 := by omega
  have e2 : 7 - ((c + 1) / 3 - 1) = 9 - (c + 1 + 1) / 3 := by omega
  rw [e1, e2] at t
  exact t
end
section
/-! sample, case by case -/
theorem ur_idle {k : Nat} (d p i s e b : Int32) : wpX_sample (fun r u' => wpY_sample (fun r' v' => r' = r ∧ i_Rel (k + 2) u' v') (0, p, i, s, e) b) (0, d, e) b := by
  refine br_t rfl (br_c (fun hb => ?_) (fun hb => ?_))
  · refine br_t rfl (br_t hb ⟨rfl, Or.inr ?_⟩)
    obtain ⟨m, hm, hs⟩ := pk_andE s (m := 255) 8 (by decide)
    refine ⟨1, m, s, e, by decide, by decide, hm, hs, ?_, rfl⟩
    have z : ur_d 1 m = 0 := Nat.div_eq_of_lt (Nat.lt_of_lt_of_le hm (by decide))
    rw [z]
    rfl
  · exact br_t rfl (br_f hb ⟨rfl, Or.inl ⟨d, p, i, s, e, rfl, rfl⟩⟩)
theorem ur_mid {k c m : Nat} (s e b : Int32) (h1 : 1 ≤ c) (h2 : c < 28) (h3 : c % 3 ≠ 1) (hm : m < 256) (hs : s &&& 255 = nI m) : wpX_sample (fun r u' => wpY_sample (fun r' v' => r' = r ∧ i_Rel (k + 2) u' v') (1, nI (c % 3), nI ((c + 1) / 3), s, e) b) (nI c, nI (ur_d c m), e) b := by
  obtain ⟨a1, a2, a3⟩ := ur_tm c h2 h1 h3
  have hi : (c + 1 + 1) / 3 = (c + 1) / 3 := by omega
  have R : i_Rel (k + 2) (nI (c + 1), nI (ur_d c m), e) (1, nI ((c + 1) % 3), nI ((c + 1) / 3), s, e) :=
    Or.inr ⟨c + 1, m, s, e, by omega, by omega, hm, hs, by unfold ur_d; rw [hi], by rw [hi]⟩
  refine br_f (nI_ne0 h1 (by omega)) (nm_r (nI_1 c) (br_f a1 (br_t a2 (And.intro (by decide) (br_f a3 ?_)))))
  by_cases hp : c % 3 = 2
  · rw [show (c + 1) % 3 = 0 by omega, ← ur_p0] at R
    rw [hp]
    exact br_f (by decide) (br_t rfl (And.intro (pk_nb _) (And.intro (pk_fb _) (br_f (by decide) ⟨rfl, R⟩))))
  · have h0 : c % 3 = 0 := by omega
    rw [show (c + 1) % 3 = 1 by omega, ← ur_p1] at R
    rw [h0]
    exact br_f (by decide) (br_f (by decide) (And.intro (pk_nb _) (And.intro (pk_fb _) (br_f (by decide) ⟨rfl, R⟩))))
theorem ur_first {k m : Nat} (s e b : Int32) (hm : m < 256) (hs : s &&& 255 = nI m) : wpX_sample (fun r u' => wpY_sample (fun r' v' => r' = r ∧ i_Rel (k + 2) u' v') (1, nI 1, nI 0, s, e) b) (nI 1, nI (ur_d 1 m), e) b := by
  refine br_f (by decide) (nm_r (nI_1 1) (br_t rfl (br_c (fun hb => ?_) (fun hb => ?_))))
  · have R : i_Rel (k + 2) (nI 2, nI (ur_d 1 m), e) (1, nI 2, nI 1, s, e) := by
      refine Or.inr ⟨2, m, s, e, by decide, by decide, hm, hs, ?_, rfl⟩
      have z1 : ur_d 1 m = 0 := Nat.div_eq_of_lt (Nat.lt_of_lt_of_le hm (by decide))
      have z2 : ur_d 2 m = 0 := Nat.div_eq_of_lt (Nat.lt_of_lt_of_le hm (by decide))
      rw [z1, z2]
    rw [← ur_p2] at R
    exact br_f (by decide) (br_f (by decide) (And.intro (pk_nb _) (And.intro (pk_fb _) (br_t rfl (nm_r ur_p1 (And.intro (by rw [← ur_p1]; exact pk_nb _) (And.intro (by rw [← ur_p1]; exact pk_fb _) (br_t rfl (br_t hb ⟨rfl, R⟩)))))))))
  · exact br_f (by decide) (br_f (by decide) (And.intro (pk_nb _) (And.intro (pk_fb _) (br_t rfl (nm_e (And.intro (pk_nb _) (And.intro (pk_fb _) (br_t rfl (br_f hb ⟨rfl, Or.inl ⟨_, _, _, _, _, rfl, rfl⟩⟩)))))))))
theorem ur_last {k m : Nat} (s e b : Int32) (hm : m < 256) (hs : s &&& 255 = nI m) : wpX_sample (fun r u' => wpY_sample (fun r' v' => r' = r ∧ i_Rel (k + 2) u' v') (1, nI 1, nI 9, s, e) b) (nI 28, nI (ur_d 28 m), e) b := by
  have hd : ur_d 28 m = m := Nat.div_one m
  rw [hd]
  obtain ⟨w, _, w1, w2⟩ := em_w (e + 1)
  have ew : (e + 1) &&& 65535 = ((e + 1).toUInt32 % 65536).toInt32 := w2.trans w1.symm
  refine br_f (by decide) (nm_r (nI_1 28) (br_f (by decide) (br_f (by decide) (br_c (fun hb => nm_r ew ?_) (fun hb => nm_r (ur_255 m hm) ?_)))))
  · exact br_f (by decide) (br_f (by decide) (And.intro (pk_nb _) (And.intro (pk_fb _) (br_t rfl (nm_e (And.intro (pk_nb _) (And.intro (pk_fb _) (br_f (by decide) (br_t (by decide) (br_t hb (nm_e (And.intro (pk_nc _) (And.intro (pk_fc _) ⟨rfl, Or.inl ⟨_, _, _, _, _, rfl, rfl⟩⟩)))))))))))))
  · exact br_f (by decide) (br_f (by decide) (And.intro (pk_nb _) (And.intro (pk_fb _) (br_t rfl (nm_e (And.intro (pk_nb _) (And.intro (pk_fb _) (br_f (by decide) (br_t (by decide) (br_f hb ⟨hs, Or.inl ⟨_, _, _, _, _, rfl, rfl⟩⟩))))))))))
theorem ur_bit {k c m : Nat} (s e b : Int32) (h4 : 4 ≤ c) (h2 : c < 28) (h3 : c % 3 = 1) (hm : m < 256) (hs : s &&& 255 = nI m) : wpX_sample (fun r u' => wpY_sample (fun r' v' => r' = r ∧ i_Rel (k + 2) u' v') (1, nI 1, nI ((c + 1) / 3), s, e) b) (nI c, nI (ur_d c m), e) b := by
  obtain ⟨a1, a2, a3, a4⟩ := ur_tx c h2 h4 h3
  obtain ⟨y1, y2, y3⟩ := ur_ty c h2 h4 h3
  have hp : (nI 1 + 1 : Int32).toInt8.toInt32 = nI ((c + 1) % 3) := by rw [show (c + 1) % 3 = 2 by omega]; exact ur_p2
  refine br_f (nI_ne0 (by omega) (by omega)) (nm_r (nI_1 c) (br_f a1 (br_t a2 (And.intro (by decide) (br_t a3 (And.intro (by decide) (nm_r a4 (br_c (fun hb => ?_) (fun hb => nm_r (ur_high h2 h4 h3 hm) ?_)))))))))
  · have R : ∀ x : Int32, x &&& 255 = nI (m / 2) → i_Rel (k + 2) (nI (c + 1), nI (ur_d c m), e) (1, (nI 1 + 1).toInt8.toInt32, (nI ((c + 1) / 3) + 1).toInt8.toInt32, x, e) := by
      intro x hx
      rw [hp, y3, ← ur_low m h2 h4 h3]
      exact Or.inr ⟨c + 1, m / 2, x, e, by omega, by omega, by omega, hx, rfl, rfl⟩
    exact br_f (by decide) (br_f (by decide) (And.intro (pk_nb _) (And.intro (pk_fb _) (br_t rfl (nm_e (And.intro (pk_nb _) (And.intro (pk_fb _) (br_f y1 (br_f y2 (br_t hb (nm_e (And.intro (pk_nb _) (And.intro (pk_fb _) ⟨rfl, R _ (by rw [hs]; exact ur_s0 m hm)⟩)))))))))))))
  · have R : ∀ x : Int32, x &&& 255 = nI (m / 2 + 128) → i_Rel (k + 2) (nI (c + 1), nI (ur_d (c + 1) (m / 2 + 128)), e) (1, (nI 1 + 1).toInt8.toInt32, (nI ((c + 1) / 3) + 1).toInt8.toInt32, x, e) := by
      intro x hx
      rw [hp, y3]
      exact Or.inr ⟨c + 1, m / 2 + 128, x, e, by omega, by omega, by omega, hx, rfl, rfl⟩
    exact br_f (by decide) (br_f (by decide) (And.intro (pk_nb _) (And.intro (pk_fb _) (br_t rfl (nm_e (And.intro (pk_nb _) (And.intro (pk_fb _) (br_f y1 (br_f y2 (br_f hb (nm_e (And.intro (pk_nb _) (And.intro (pk_fb _) ⟨rfl, R _ (by rw [hs]; exact ur_s1 m hm)⟩)))))))))))))
end
section
theorem i_vc_sample {k : Nat} {u : SX} {v : SY} (I : i_Rel k u v) (hk : k + 2 ≤ 1024) (v1 : Int32) : wpX_sample (fun r u' => wpY_sample (fun r' v' => r' = r ∧ i_Rel (k + 2) u' v') v (lw_bz v1)) u (lw_bz v1) := by
  rcases I with ⟨d, p, i, s, e, rfl, rfl⟩ | ⟨c, m, s, e, h1, h2, hm, hs, rfl, rfl⟩
  · exact ur_idle d p i s e _
  · by_cases h3 : c % 3 = 1
    · by_cases c1 : c = 1
      · subst c1
        exact ur_first s e _ hm hs
      · by_cases c28 : c = 28
        · subst c28
          exact ur_last s e _ hm hs
        · rw [h3]
          exact ur_bit s e _ (by omega) (by omega) h3 hm hs
    · exact ur_mid s e _ h1 (by omega) h3 hm hs
theorem i_vc_idle {k : Nat} {u : SX} {v : SY} (I : i_Rel k u v) (hk : k + 2 ≤ 1024) : wpX_idle (fun r => wpY_idle (fun r' => r' = r ∧ i_Rel (k + 2) u v) v) u := by
  have J : i_Rel (k + 2) u v := i_up I
  rcases I with ⟨d, p, i, s, e, rfl, rfl⟩ | ⟨c, m, s, e, h1, h2, hm, hs, rfl, rfl⟩
  · exact br_t rfl (br_t rfl ⟨rfl, J⟩)
  · exact br_f (nI_ne0 h1 (by omega)) (br_f (by decide) ⟨rfl, J⟩)
theorem i_vc_errors {k : Nat} {u : SX} {v : SY} (I : i_Rel k u v) (hk : k + 2 ≤ 1024) : wpX_errors (fun r => wpY_errors (fun r' => r' = r ∧ i_Rel (k + 2) u v) v) u := by
  have J : i_Rel (k + 2) u v := i_up I
  rcases I with ⟨d, p, i, s, e, rfl, rfl⟩ | ⟨c, m, s, e, h1, h2, hm, hs, rfl, rfl⟩
  · exact ⟨rfl, J⟩
  · exact ⟨rfl, J⟩
end
