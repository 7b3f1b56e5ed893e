section
/-! Three rows out of kit/rows/PURE-ROWS (pk_m1, pk_and, pk_andE), then the byte's table: what one step of the doubling computes on both sides. -/
theorem pk_m1 (n : Nat) : nI (n + 1) + (-1) = nI n := by
  rw [← nI_1, Int32.add_assoc, show (1 : Int32) + (-1) = 0 from rfl, Int32.add_zero]
theorem pk_and (x : Int32) {m : Int32} (k : Nat) (hm : m.toBitVec.toNat = 2 ^ k - 1) : x &&& m = nI (x.toBitVec.toNat % 2 ^ k) := by
  apply Int32.toBitVec_inj.mp
  apply BitVec.eq_of_toNat_eq
  rw [Int32.toBitVec_and, BitVec.toNat_and, hm, Nat.and_two_pow_sub_one_eq_mod]
  show _ = (BitVec.ofNat 32 _).toNat
  rw [BitVec.toNat_ofNat]
  exact (Nat.mod_eq_of_lt (Nat.lt_of_le_of_lt (Nat.mod_le _ _) x.toBitVec.isLt)).symm
theorem pk_andE (x : Int32) {m : Int32} (k : Nat) (hm : m.toBitVec.toNat = 2 ^ k - 1) : ∃ j : Nat, j < 2 ^ k ∧ x &&& m = nI j := ⟨_, Nat.mod_lt _ (Nat.two_pow_pos k), pk_and x k hm⟩
/-- every cell holds a byte, as a number 0..255 -/
def xt_B (a : Nat → Int32) : Prop := ∀ j, ∃ m : Nat, m < 256 ∧ a j = nI m
theorem xt_B0 : xt_B (fun _ => 0) := fun _ => ⟨0, by decide, nI_0.symm⟩
theorem xt_Bu {a : Nat → Int32} (h : xt_B a) (k : Nat) {q : Nat} (hq : q < 256) : xt_B (upd a k (nI q)) := by
  intro j
  by_cases e : j = k
  · exact ⟨q, hq, if_pos e⟩
  · obtain ⟨m, hm, em⟩ := h j
    exact ⟨m, hm, (if_neg e).trans em⟩
/-- the low eight bits are a byte -/
theorem xt_and (y : Int32) : ∃ m : Nat, m < 256 ∧ y &&& 255 = nI m := pk_andE y 8 (by decide)
/-- the reference's char keeps a byte as it is -/
theorem xt_ch : ∀ m, m < 256 → vp_nar .char (((nI m).toUInt32 % 65536).toInt32) = nI m := by decide +kernel
/-- X: the sum of twice the byte and the carry -/
theorem xt_w : ∀ m, m < 256 → ∀ c, c < 2 → 2 * nI m + nI c = nI (2 * m + c) := by decide +kernel
/-- Y: the byte shifted by one, or the carry: the same number -/
theorem xt_o : ∀ m, m < 256 → ∀ c, c < 2 → (nI m <<< ((1 : Int32) &&& 31)) ||| nI c = nI (2 * m + c) := by decide +kernel
/-- the byte that stays -/
theorem xt_q : ∀ w, w < 512 → nI w &&& 255 = nI (w % 256) := by decide +kernel
/-- X: the carry by division -/
theorem xt_c : ∀ w, w < 512 → nI w / 256 = nI (w / 256) := by decide +kernel
/-- Y: the carry by a shift -/
theorem xt_s : ∀ w, w < 512 → ((nI w).toUInt32 >>> ((8 : Int32).toUInt32 &&& Int32.toUInt32 31)).toInt32 = nI (w / 256) := by decide +kernel
/-- the polynomial's tail keeps a byte a byte -/
theorem xt_x : ∀ m, m < 256 → nI m ^^^ 135 = nI (m ^^^ 135) ∧ m ^^^ 135 < 256 := by decide +kernel
end
section
/-! The two doublings, each in lockstep: one outcome r, a' serves both walks, whatever the post. -/
/-- what is left once the loop has ended, little-endian: from X's cell 0 -/
theorem xt_le0 {c : Nat} {a : Nat → Int32} (hc : c < 2) (hB : xt_B a) : ∃ (r : Int32) (a' : Nat → Int32), xt_B a' ∧ (∀ post : Int32 → SX → Prop, post r a' → wX_dblLe_4 post 1 (nI c) (nI 16) a) ∧ (∀ post : Int32 → SY → Prop, post r a' → wY_dbl_8 post 0 1 1 (nI c) (nI 16) (nI 16) a) := by
  have h1 : (15 : Int32) < nI 16 := by decide +kernel
  have h2 : (16 : Int32) ≤ nI 16 := by decide +kernel
  have hi : vp_in (0 : Int32) 16 := vp_in_iff.mpr (by decide)
  obtain ⟨m, hm, em⟩ := hB 0
  have ex : a 0 ^^^ 135 = nI (m ^^^ 135) := by rw [em]; exact (xt_x m hm).1
  have ez : (0 : Int32).toNatClampNeg = 0 := by decide
  by_cases h : c = 1
  · have e1 : nI c = 1 := by rw [h]; decide +kernel
    refine ⟨nI c, upd a 0 (nI (m ^^^ 135)), xt_Bu hB 0 (xt_x m hm).2, fun post hp => br_t h1 (br_t e1 (nm_r (by rw [ex]) hp)), fun post hp => br_t h2 (br_t e1 ⟨hi, hi, nm_r ?_ hp⟩)⟩
    rw [ez, ex, xt_ch _ (xt_x m hm).2]
  · have h0 : c = 0 := by omega
    have e1 : ¬ nI c = 1 := by rw [h0]; decide +kernel
    exact ⟨nI c, a, hB, fun post hp => br_t h1 (br_f e1 hp), fun post hp => br_t h2 (br_f e1 hp)⟩
theorem xt_le : ∀ (d j c : Nat) (a : Nat → Int32), j + d = 16 → c < 2 → xt_B a → ∃ (r : Int32) (a' : Nat → Int32), xt_B a' ∧ (∀ post : Int32 → SX → Prop, post r a' → wX_dblLe_4 post (d + 1) (nI c) (nI j) a) ∧ (∀ post : Int32 → SY → Prop, post r a' → wY_dbl_8 post 0 1 (d + 1) (nI c) (nI j) (nI j) a) := by
  intro d
  induction d with
  | zero =>
    intro j c a hj hc hB
    cases (show j = 16 from hj)
    exact xt_le0 hc hB
  | succ d ih =>
    intro j c a hj hc hB
    have hj16 : j < 16 := by omega
    have h1 : ¬ (15 : Int32) < nI j := nI_nlt (a := 15) (by omega) (by decide)
    have h2 : ¬ (16 : Int32) ≤ nI j := nI_ge (b := 16) hj16 (by decide)
    have hi : vp_in (nI j) 16 := vp_in_nI hj16 (by decide)
    obtain ⟨m, hm, em⟩ := hB (nI j).toNatClampNeg
    have hw : 2 * m + c < 512 := by omega
    have hq : (2 * m + c) % 256 < 256 := Nat.mod_lt _ (by decide)
    have hc' : (2 * m + c) / 256 < 2 := by omega
    obtain ⟨r, a', hB', hX, hY⟩ := ih (j + 1) ((2 * m + c) / 256) (upd a (nI j).toNatClampNeg (nI ((2 * m + c) % 256))) (by omega) hc' (xt_Bu hB _ hq)
    have e1 : 2 * a (nI j).toNatClampNeg + nI c = nI (2 * m + c) := by rw [em, xt_w m hm c hc]
    have e2 : (a (nI j).toNatClampNeg <<< ((1 : Int32) &&& 31)) ||| nI c = nI (2 * m + c) := by rw [em, xt_o m hm c hc]
    have e3 : nI (2 * m + c) &&& 255 = nI ((2 * m + c) % 256) := xt_q _ hw
    have e4 : vp_nar .char (((nI (2 * m + c) &&& 255).toUInt32 % 65536).toInt32) = nI ((2 * m + c) % 256) := by rw [e3, xt_ch _ hq]
    refine ⟨r, a', hB', fun post hp => br_f h1 ⟨hi, nm_r e1 ⟨hi, nm_r (by rw [e3]) ⟨by decide, nm_r (xt_c _ hw) (nm_r (nI_1 j) (hX post hp))⟩⟩⟩, fun post hp => br_f h2 ⟨hi, nm_r e2 ⟨hi, nm_r (by rw [e4]) (nm_r (xt_s _ hw) (nm_r (nI_1 j) (nm_r (nI_1 j) (hY post hp))))⟩⟩⟩
/-- what is left once the loop has ended, big-endian: from X's cell 15 -/
theorem xt_be0 {c : Nat} {a : Nat → Int32} (hc : c < 2) (hB : xt_B a) : ∃ (r : Int32) (a' : Nat → Int32), xt_B a' ∧ (∀ post : Int32 → SX → Prop, post r a' → wX_dblBe_5 post 1 (nI c) (nI 0 + (-1)) a) ∧ (∀ post : Int32 → SY → Prop, post r a' → wY_dbl_8 post 15 (-1) 1 (nI c) (nI 0 + (-1)) (nI 16) a) := by
  have h1 : nI 0 + (-1) < 0 := by decide +kernel
  have h2 : (16 : Int32) ≤ nI 16 := by decide +kernel
  have hi : vp_in (15 : Int32) 16 := vp_in_iff.mpr (by decide)
  obtain ⟨m, hm, em⟩ := hB 15
  have ex : a 15 ^^^ 135 = nI (m ^^^ 135) := by rw [em]; exact (xt_x m hm).1
  have ez : (15 : Int32).toNatClampNeg = 15 := by decide
  by_cases h : c = 1
  · have e1 : nI c = 1 := by rw [h]; decide +kernel
    refine ⟨nI c, upd a 15 (nI (m ^^^ 135)), xt_Bu hB 15 (xt_x m hm).2, fun post hp => br_t h1 (br_t e1 (nm_r (by rw [ex]) hp)), fun post hp => br_t h2 (br_t e1 ⟨hi, hi, nm_r ?_ hp⟩)⟩
    rw [ez, ex, xt_ch _ (xt_x m hm).2]
  · have h0 : c = 0 := by omega
    have e1 : ¬ nI c = 1 := by rw [h0]; decide +kernel
    exact ⟨nI c, a, hB, fun post hp => br_t h1 (br_f e1 hp), fun post hp => br_t h2 (br_f e1 hp)⟩
/-- d bytes are left: the index is d - 1, the reference's count j is 16 - d -/
theorem xt_be : ∀ (d j c : Nat) (a : Nat → Int32), j + d = 16 → c < 2 → xt_B a → ∃ (r : Int32) (a' : Nat → Int32), xt_B a' ∧ (∀ post : Int32 → SX → Prop, post r a' → wX_dblBe_5 post (d + 1) (nI c) (nI d + (-1)) a) ∧ (∀ post : Int32 → SY → Prop, post r a' → wY_dbl_8 post 15 (-1) (d + 1) (nI c) (nI d + (-1)) (nI j) a) := by
  intro d
  induction d with
  | zero =>
    intro j c a hj hc hB
    cases (show j = 16 from hj)
    exact xt_be0 hc hB
  | succ d ih =>
    intro j c a hj hc hB
    have hd16 : d < 16 := by omega
    have hj16 : j < 16 := by omega
    rw [pk_m1]
    have h1 : ¬ nI d < 0 := nI_pos (by omega)
    have h2 : ¬ (16 : Int32) ≤ nI j := nI_ge (b := 16) hj16 (by decide)
    have hi : vp_in (nI d) 16 := vp_in_nI hd16 (by decide)
    obtain ⟨m, hm, em⟩ := hB (nI d).toNatClampNeg
    have hw : 2 * m + c < 512 := by omega
    have hq : (2 * m + c) % 256 < 256 := Nat.mod_lt _ (by decide)
    have hc' : (2 * m + c) / 256 < 2 := by omega
    obtain ⟨r, a', hB', hX, hY⟩ := ih (j + 1) ((2 * m + c) / 256) (upd a (nI d).toNatClampNeg (nI ((2 * m + c) % 256))) (by omega) hc' (xt_Bu hB _ hq)
    have e1 : 2 * a (nI d).toNatClampNeg + nI c = nI (2 * m + c) := by rw [em, xt_w m hm c hc]
    have e2 : (a (nI d).toNatClampNeg <<< ((1 : Int32) &&& 31)) ||| nI c = nI (2 * m + c) := by rw [em, xt_o m hm c hc]
    have e3 : nI (2 * m + c) &&& 255 = nI ((2 * m + c) % 256) := xt_q _ hw
    have e4 : vp_nar .char (((nI (2 * m + c) &&& 255).toUInt32 % 65536).toInt32) = nI ((2 * m + c) % 256) := by rw [e3, xt_ch _ hq]
    refine ⟨r, a', hB', fun post hp => br_f h1 ⟨hi, nm_r e1 ⟨hi, nm_r (by rw [e3]) ⟨by decide, nm_r (xt_c _ hw) (nm_e (hX post hp))⟩⟩⟩, fun post hp => br_f h2 ⟨hi, nm_r e2 ⟨hi, nm_r (by rw [e4]) (nm_r (xt_s _ hw) (nm_e (nm_r (nI_1 j) (hY post hp))))⟩⟩⟩
end
section
/-- the two blocks are the same sixteen cells, and every cell holds a byte -/
def i_Rel (_ : Nat) (u : SX) (v : SY) : Prop := u = v ∧ xt_B u
theorem i_up {k : Nat} {u : SX} {v : SY} (h : i_Rel k u v) : i_Rel (k + 3) u v := h
theorem i_vc0 : wpX_init (fun u => wpY_init (fun v => i_Rel 0 u v)) := And.intro rfl xt_B0
theorem xt_in {x : Int32} (h0 : ¬ x < 0) (h : x ≤ 15) : vp_in x 16 := by
  obtain ⟨j, hj, rfl⟩ := nI_of2 (M := 15) (n := 15) (by decide) h0 h
  exact vp_in_nI (by omega) (by decide)
theorem i_vc_set {k : Nat} {u : SX} {v : SY} (I : i_Rel k u v) (hk : k + 3 ≤ 1536) (v1 : Int32) (v2 : Int32) : wpX_set (fun r u' => wpY_set (fun r' v' => r' = r ∧ i_Rel (k + 3) u' v') v v1 v2) u v1 v2 := by
  obtain ⟨rfl, hB⟩ := I
  by_cases h0 : v1 < 0
  · exact br_t h0 (br_t h0 ⟨rfl, rfl, hB⟩)
  · by_cases h : v1 ≤ 15
    · have hi := xt_in h0 h
      obtain ⟨m, hm, em⟩ := xt_and v2
      have e : vp_nar .char (((v2 &&& 255).toUInt32 % 65536).toInt32) = nI m := by rw [em, xt_ch m hm]
      exact br_f h0 (br_t h ⟨hi, nm_r (by rw [em]) (br_f h0 (br_t h ⟨hi, nm_r (by rw [e]) ⟨rfl, rfl, xt_Bu hB _ hm⟩⟩))⟩)
    · exact br_f h0 (br_f h (br_f h0 (br_f h ⟨rfl, rfl, hB⟩)))
theorem i_vc_dblLe {k : Nat} {u : SX} {v : SY} (I : i_Rel k u v) (hk : k + 3 ≤ 1536) : wpX_dblLe (fun r u' => wpY_dblLe (fun r' v' => r' = r ∧ i_Rel (k + 3) u' v') v) u := by
  obtain ⟨rfl, hB⟩ := I
  obtain ⟨r, a', hB', hX, hY⟩ := xt_le 16 0 0 u rfl (by decide) hB
  rw [nI_0] at hX hY
  exact Exists.intro 17 (hX _ (Exists.intro 17 (hY _ ⟨rfl, rfl, hB'⟩)))
theorem xt_15 : nI 16 + (-1) = 15 := by decide +kernel
theorem i_vc_dblBe {k : Nat} {u : SX} {v : SY} (I : i_Rel k u v) (hk : k + 3 ≤ 1536) : wpX_dblBe (fun r u' => wpY_dblBe (fun r' v' => r' = r ∧ i_Rel (k + 3) u' v') v) u := by
  obtain ⟨rfl, hB⟩ := I
  obtain ⟨r, a', hB', hX, hY⟩ := xt_be 16 0 0 u rfl (by decide) hB
  rw [nI_0, xt_15] at hX hY
  exact Exists.intro 17 (hX _ (Exists.intro 17 (hY _ ⟨rfl, rfl, hB'⟩)))
theorem i_vc_get {k : Nat} {u : SX} {v : SY} (I : i_Rel k u v) (hk : k + 3 ≤ 1536) (v1 : Int32) : wpX_get (fun r => wpY_get (fun r' => r' = r ∧ i_Rel (k + 3) u v) v v1) u v1 := by
  obtain ⟨rfl, hB⟩ := I
  by_cases h0 : v1 < 0
  · exact br_t h0 (br_t h0 ⟨rfl, rfl, hB⟩)
  · by_cases h : v1 ≤ 15
    · have hi := xt_in h0 h
      exact br_f h0 (br_t h ⟨hi, br_f h0 (br_t h ⟨hi, rfl, rfl, hB⟩)⟩)
    · exact br_f h0 (br_f h (br_f h0 (br_f h ⟨rfl, rfl, hB⟩)))
end
