section
/-! ===== rows pasted from the kit's PURE-ROWS (pk_*), then the one law of masks that this claim wants ===== -/
theorem pk_tn {n : Nat} (h : n < 2 ^ 32) : (nI n).toBitVec.toNat = n := Nat.mod_eq_of_lt h
theorem pk_and (x : Int32) {m : Int32} (k : Nat) (hm : m.toBitVec.toNat = 2 ^ k - 1) : x &&& m = nI (x.toBitVec.toNat % 2 ^ k) := by
  apply Int32.toBitVec_inj.mp
  apply BitVec.eq_of_toNat_eq
  rw [Int32.toBitVec_and, BitVec.toNat_and, hm, Nat.and_two_pow_sub_one_eq_mod]
  show _ = (BitVec.ofNat 32 _).toNat
  rw [BitVec.toNat_ofNat]
  exact (Nat.mod_eq_of_lt (Nat.lt_of_le_of_lt (Nat.mod_le _ _) x.toBitVec.isLt)).symm
theorem pk_charN {q : Nat} (hq : q < 65536) : narrow .char (.int (nI q)) = .int (nI q) ∧ fits .char (.int (nI q)) = true := by
  constructor
  · have e : (nI q).toUInt32.toUInt16.toUInt32.toInt32 = nI q := by
      apply Int32.toBitVec_inj.mp
      apply BitVec.eq_of_toNat_eq
      show (nI q).toUInt32.toUInt16.toUInt32.toNat = q % 2 ^ 32
      rw [UInt16.toNat_toUInt32, UInt32.toNat_toUInt16, show (nI q).toUInt32.toNat = q % 2 ^ 32 from rfl]
      omega
    exact congrArg Value.int e
  · have a : (0 : Int32) ≤ nI q := nI_pos' (by omega)
    have b : nI q ≤ 65535 := nI_le (b := 65535) (by omega) (by decide)
    show (decide ((0 : Int32) ≤ nI q) && decide (nI q ≤ 65535)) = true
    rw [decide_eq_true a, decide_eq_true b]
    rfl
theorem pk_char (x : Int32) : (x.toUInt32 % 65536).toInt32 = nI (x.toBitVec.toNat % 65536) := by
  apply Int32.toBitVec_inj.mp
  apply BitVec.eq_of_toNat_eq
  rw [pk_tn (by omega)]
  show (x.toUInt32 % 65536).toNat = _
  rw [UInt32.toNat_mod]
  rfl
theorem pk_nc (x : Int32) : narrow .char (.int (x.toUInt32 % 65536).toInt32) = .int (x.toUInt32 % 65536).toInt32 := by
  rw [pk_char]
  exact (pk_charN (Nat.mod_lt _ (by decide))).1
theorem pk_fc (x : Int32) : fits .char (.int (x.toUInt32 % 65536).toInt32) = true := by
  rw [pk_char]
  exact (pk_charN (Nat.mod_lt _ (by decide))).2
/-- the component masks where the reference casts to char: the same int -/
theorem rq_mask (x : Int32) : (x.toUInt32 % 65536).toInt32 = x &&& 65535 := by
  rw [pk_char, pk_and x 16 (by decide)]
/-- a masked int passes the char field's store unchanged -/
theorem rq_nc (x : Int32) : narrow .char (.int (x &&& 65535)) = .int (x &&& 65535) := by
  rw [← rq_mask]
  exact pk_nc x
theorem rq_fc (x : Int32) : fits .char (.int (x &&& 65535)) = true := by
  rw [← rq_mask]
  exact pk_fc x
end
section
/-- the two objects hold the same five fields (the reference's char field is that same int) -/
def i_Rel (_ : Nat) (u : SX) (v : SY) : Prop := u = v
theorem i_up {k : Nat} {u : SX} {v : SY} (h : i_Rel k u v) : i_Rel (k + 2) u v := h
theorem i_vc0 (k0 : Int32) : wpX_init (fun u => wpY_init (fun v => i_Rel 1 u v) k0) k0 := by
  unfold wpX_init wpY_init
  intro x ex y ey
  rw [rq_mask] at ey
  cases ex.trans ey.symm
  rw [ex]
  exact ⟨rq_nc _, rq_fc _, rfl⟩
theorem i_vc_update {k : Nat} {u : SX} {v : SY} (I : i_Rel k u v) (hk : k + 2 ≤ 1025) (v1 : Int32) : wpX_update (fun r u' => wpY_update (fun r' v' => r' = r ∧ i_Rel (k + 2) u' v') v v1) u v1 := by
  cases I
  obtain ⟨m, c, b, p, q⟩ := u
  unfold wpX_update wX_update_102 wpY_update wY_update_95 wY_update_150
  dsimp only
  intro x ex d ed
  have ey : (v1.toUInt32 % 65536).toInt32 = x := by rw [ex]; exact rq_mask v1
  have hn : narrow .char (.int x) = .int x := by rw [ex]; exact rq_nc v1
  have hf : fits .char (.int x) = true := by rw [ex]; exact rq_fc v1
  by_cases hp : p ≤ 0
  · by_cases h3 : 3000 ≤ d
    · by_cases h6 : 65436 < d
      · exact br_t hp (br_t h3 (br_t h6 fun r er => nm_r ey (nm_r ed.symm (br_t hp (br_t h3 (br_t h6 (nm_r er.symm ⟨rfl, rfl⟩)))))))
      · by_cases hb : x = b
        · exact br_t hp (br_t h3 (br_f h6 (br_t hb (nm_r ey (nm_r ed.symm (br_t hp (br_t h3 (br_f h6 (br_t hb ⟨hn, hf, nm_e ⟨rfl, rfl⟩⟩)))))))))
        · exact br_t hp (br_t h3 (br_f h6 (br_f hb fun r er => nm_r ey (nm_r ed.symm (br_t hp (br_t h3 (br_f h6 (br_f hb (nm_r er.symm ⟨rfl, rfl⟩)))))))))
    · by_cases hm : m ≤ x
      · exact br_t hp (br_f h3 (br_t hm fun r er => nm_r ey (nm_r ed.symm (br_t hp (br_f h3 (br_t hm ⟨hn, hf, nm_r er.symm ⟨rfl, rfl⟩⟩))))))
      · exact br_t hp (br_f h3 (br_f hm fun z ez r er => nm_r ey (nm_r ed.symm (br_t hp (br_f h3 (br_f hm (nm_r ez.symm ⟨hn, hf, nm_r er.symm ⟨rfl, rfl⟩⟩)))))))
  · by_cases h1 : d = 1
    · by_cases h0 : p - 1 = 0
      · exact br_f hp (br_t h1 (nm_e (br_t h0 fun r er => nm_r ey (nm_r ed.symm (br_f hp (br_t h1 ⟨hn, hf, nm_e (br_t h0 (nm_r er.symm ⟨rfl, rfl⟩))⟩))))))
      · exact br_f hp (br_t h1 (nm_e (br_f h0 (nm_r ey (nm_r ed.symm (br_f hp (br_t h1 ⟨hn, hf, nm_e (br_f h0 ⟨rfl, rfl⟩)⟩)))))))
    · exact br_f hp (br_f h1 (nm_r ey (nm_r ed.symm (br_f hp (br_f h1 ⟨hn, hf, rfl, rfl⟩)))))
theorem i_vc_extended {k : Nat} {u : SX} {v : SY} (I : i_Rel k u v) (hk : k + 2 ≤ 1025) : wpX_extended (fun r => wpY_extended (fun r' => r' = r ∧ i_Rel (k + 2) u v) v) u := by
  cases I
  obtain ⟨m, c, b, p, q⟩ := u
  exact ⟨rfl, rfl⟩
theorem i_vc_received {k : Nat} {u : SX} {v : SY} (I : i_Rel k u v) (hk : k + 2 ≤ 1025) : wpX_received (fun r => wpY_received (fun r' => r' = r ∧ i_Rel (k + 2) u v) v) u := by
  cases I
  obtain ⟨m, c, b, p, q⟩ := u
  exact ⟨rfl, rfl⟩
end
