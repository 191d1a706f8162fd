/-! feed (mine) -/
theorem nar_b (x : Int32) : vp_nar .byte x = x.toInt8.toInt32 := rfl
theorem and255_32 (x : Int32) : (x &&& 255).toInt = x.toInt % 256 := by
  have h : (x &&& 255).toBitVec = BitVec.ofNat 32 (x.toBitVec.toNat % 256) := by
    apply BitVec.eq_of_toNat_eq
    show (x.toBitVec &&& 255#32).toNat = _
    rw [BitVec.toNat_and, BitVec.toNat_ofNat, BitVec.toNat_ofNat, show 255 % 2 ^ 32 = 2 ^ 8 - 1 from rfl, Nat.and_two_pow_sub_one_eq_mod]
    omega
  have h2 : (x &&& 255).toInt = ((x.toBitVec.toNat % 256 : Nat) : Int) := by
    show (x &&& 255).toBitVec.toInt = _
    rw [h, BitVec.toInt_eq_toNat_cond, BitVec.toNat_ofNat]
    have : x.toBitVec.toNat % 256 < 256 := Nat.mod_lt _ (by decide)
    rw [Nat.mod_eq_of_lt (by omega), if_pos (by omega)]
  rw [h2]
  show _ = x.toBitVec.toInt % 256
  rw [BitVec.toInt_eq_toNat_cond]
  split <;> omega
theorem and255_64 (x : Int64) : (x &&& 255).toInt = x.toInt % 256 := by
  have h : (x &&& 255).toBitVec = BitVec.ofNat 64 (x.toBitVec.toNat % 256) := by
    apply BitVec.eq_of_toNat_eq
    show (x.toBitVec &&& 255#64).toNat = _
    rw [BitVec.toNat_and, BitVec.toNat_ofNat, BitVec.toNat_ofNat, show 255 % 2 ^ 64 = 2 ^ 8 - 1 from rfl, Nat.and_two_pow_sub_one_eq_mod]
    omega
  have h2 : (x &&& 255).toInt = ((x.toBitVec.toNat % 256 : Nat) : Int) := by
    show (x &&& 255).toBitVec.toInt = _
    rw [h, BitVec.toInt_eq_toNat_cond, BitVec.toNat_ofNat]
    have : x.toBitVec.toNat % 256 < 256 := Nat.mod_lt _ (by decide)
    rw [Nat.mod_eq_of_lt (by omega), if_pos (by omega)]
  rw [h2]
  show _ = x.toBitVec.toInt % 256
  rw [BitVec.toInt_eq_toNat_cond]
  split <;> omega
theorem bm_mod {x : Int} {m : Nat} (h : (256 : Int) ∣ m) : (x.bmod m) % 256 = x % 256 := by
  rw [← Int.emod_emod_of_dvd (x.bmod m) h, Int.bmod_emod, Int.emod_emod_of_dvd _ h]
theorem byte_eq (x : Int64) : (vp_nar .byte ((x.toInt32).toInt8.toInt32)) &&& 255 = (x &&& 255).toInt32 := by
  have hm : 0 ≤ x.toInt % 256 := Int.emod_nonneg _ (by decide)
  have hm2 : x.toInt % 256 < 256 := Int.emod_lt_of_pos _ (by decide)
  rw [← Int32.toInt_inj, and255_32, nar_b, Int8.toInt_toInt32, Int32.toInt_toInt8, Int8.toInt_toInt32, Int32.toInt_toInt8, Int64.toInt_toInt32, Int64.toInt_toInt32, and255_64, bm_mod (by decide), bm_mod (by decide), bm_mod (by decide)]
  exact (Int.bmod_eq_of_le (by omega) (by omega)).symm
theorem cR_feed {D : xD} {f : xF} {g : xG} (R : cR D f g) {m : Nat} (hm : D.1 13 = i32 m) (hm2 : m < 160) {b0 b8 : Int32} (hb : b0 &&& 255 = b8) : cR (upd D.1 13 (D.1 13 + 1), va_up D.2 21 (upd (D.2 21) m b8)) (upd f 19 (f 19 + 1)) (va_up g 18 (upd (g 18) m b0)) := by
  refine ⟨fun p hp => ?_, fun p hp => ?_, fun i hi => ?_⟩
  · show upd f 19 (f 19 + 1) p.1 = upd D.1 13 (D.1 13 + 1) p.2
    have h : ∀ p ∈ cF, p.1 = 19 ↔ p.2 = 13 := by decide
    by_cases hk : p.1 = 19
    · rw [hk, (h p hp).mp hk, upd_e, upd_e, R.taped]
    · rw [upd_n hk, upd_n (fun q => hk ((h p hp).mpr q))]; exact R.1 p hp
  · show va_up g 18 _ p.1 = va_up D.2 21 _ p.2
    have h : ∀ p ∈ cG, p.1 ≠ 18 ∧ p.2 ≠ 21 := by decide
    rw [va_up_ne _ _ (h p hp).1, va_up_ne _ _ (h p hp).2]; exact R.2.1 p hp
  · have hi : i < (upd D.1 13 (D.1 13 + 1) 13).toNatClampNeg := hi
    rw [upd_e, hm, i32_succ, i32_cl (by omega)] at hi
    show (va_up g 18 (upd (g 18) m b0) 18 i) &&& 255 = va_up D.2 21 (upd (D.2 21) m b8) 21 i
    rw [va_up_self, va_up_self]
    by_cases h : i = m
    · rw [h, upd_e, upd_e, hb]
    · rw [upd_n h, upd_n h]
      exact R.2.2 i (by rw [hm, i32_cl (by omega)]; omega)
theorem feed_loop {n : Nat} (hn : n ≤ 8) (x : Int64) : ∀ (d j K : Nat) (D : xD) (f : xF) (g : xG) (m : Nat), j + d = n → d < K → D.1 13 = i32 m → m + d ≤ 160 → cR D f g → Good D → Sim D [13] [21] (pX0_feed_33 K f g (i32 n) x (i32 j)) (pX8_feed_32 K D.1 D.2 (i32 n) x (i32 j)) := by
  intro d
  induction d with
  | zero =>
    intro j K D f g m hj hK hm hm2 R Gd
    obtain ⟨k, rfl⟩ : ∃ k, K = k + 1 := ⟨K - 1, by omega⟩
    rw [pX0_feed_33, pX8_feed_32, if_pos (by rw [i32_le (by omega) (by omega)]; omega), if_pos (by rw [i32_le (by omega) (by omega)]; omega), R.taped]
    exact Sim.same R Gd
  | succ d ih =>
    intro j K D f g m hj hK hm hm2 R Gd
    obtain ⟨k, rfl⟩ : ∃ k, K = k + 1 := ⟨K - 1, by omega⟩
    have hg : gin (D.1 13) 160 = true := by rw [hm]; exact gin_i (by omega) (by omega)
    have hnl : ¬ i32 n ≤ i32 j := by rw [i32_le (by omega) (by omega)]; omega
    have hg0 : gin (f 19) 160 = true := by rw [R.taped]; exact hg
    rw [pX0_feed_33, pX8_feed_32, if_neg hnl, if_neg hnl, if_pos hg0, if_pos hg, i32_succ]
    have hcl : (D.1 13).toNatClampNeg = m := by rw [hm]; exact i32_cl (by omega)
    have hcl2 : (f 19).toNatClampNeg = m := by rw [R.taped]; exact hcl
    rw [hcl, hcl2]
    have hR := cR_feed R hm (by omega) (byte_eq (x >>> ((8 * i32 j).toInt64 &&& 63)))
    have hv : ((x >>> ((8 * i32 j).toInt64 &&& 63)) &&& 255).toInt32.toInt = (x >>> ((8 * i32 j).toInt64 &&& 63)).toInt % 256 := by
      have hm : 0 ≤ (x >>> ((8 * i32 j).toInt64 &&& 63)).toInt % 256 := Int.emod_nonneg _ (by decide)
      have hm2 : (x >>> ((8 * i32 j).toInt64 &&& 63)).toInt % 256 < 256 := Int.emod_lt_of_pos _ (by decide)
      rw [Int64.toInt_toInt32, and255_64]
      exact Int.bmod_eq_of_le (by omega) (by omega)
    have hb1 : (D.1 13).toInt = m := by rw [hm]; exact i32_toInt (by omega)
    have hs := one_add (x := D.1 13) (hi := 159) (by omega) (by decide)
    have hGd : Good (upd D.1 13 (D.1 13 + 1), va_up D.2 21 (upd (D.2 21) m ((x >>> ((8 * i32 j).toInt64 &&& 63)) &&& 255).toInt32)) :=
      ⟨gF_u Gd.1 (by rw [hs]; simp only [sLo]; omega) (by rw [hs]; simp only [sHi]; omega), gA_u Gd.2.1 (by rw [hv]; simp only [aLo]; omega) (by rw [hv]; simp only [aHi]; omega), gX.ug (D := (_, _)) (gX.uf (k := 13) (v := D.1 13 + 1) Gd.2.2 (by decide) (by decide) (by decide) (by decide) (by decide) (by decide) (by decide)) (by decide)⟩
    obtain ⟨v, f1, g1, E, h1, h2, h3, h4, h5⟩ := ih (j + 1) k _ _ _ (m + 1) (by omega) (by omega) (by show upd D.1 13 (D.1 13 + 1) 13 = _; rw [upd_e, hm, i32_succ]) (by omega) hR hGd
    exact ⟨v, f1, g1, E, h1, h2, h3, h4, off.tr (((off.rf D).uf (by decide)).ug (by decide)) h5⟩
theorem P_feed {D : xD} {f : xF} {g : xG} (R : cR D f g) (Gd : Good D) (n : Int32) (x : Int64) : Sim D [13] [21] (pX0_feed f g n x) (pX8_feed D.1 D.2 n x) := by
  simp only [pX0_feed, pX8_feed, pX0_feed_0, pX8_feed_0, in0, in8, R.taped, Option.bind_some, zi_0, ite_not, Int32.reduceToInt, Int64.reduceToInt]
  by_cases c1 : 1 ≤ n.toInt ∧ n.toInt ≤ 8
  case neg => simp only [c1, if_false]; exact Sim.same R Gd
  simp only [c1, and_self, if_true]
  by_cases c2 : D.1 13 + n ≤ 160
  case neg => simp only [c2, if_false]; exact Sim.same R Gd
  simp only [c2, if_true]
  obtain ⟨k, hk, hn⟩ := i32_ex (x := n) (N := 8) (by omega) (by omega) (by omega)
  obtain ⟨m, hm, h0⟩ := i32_ex (x := D.1 13) (N := 160) (Gd.1 13).1 (Gd.1 13).2 (by omega)
  rw [hn, h0, i32_add, show (160 : Int32) = i32 160 from rfl, i32_le (by omega) (by omega)] at c2
  rw [hn]
  exact feed_loop hk x k 0 5000 D f g m (by omega) (by omega) h0 (by omega) R Gd
