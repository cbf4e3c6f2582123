section
/-! rows of kit/rows (starting texts), picked by name by pick.py -/
theorem pk_us {f : Nat → Int32} {k : Nat} {x : Int32} : upd f k x k = x := if_pos rfl
theorem pk_un {f : Nat → Int32} {k j : Nat} {x : Int32} (h : j ≠ k) : upd f k x j = f j := if_neg h
theorem pk_m1 (n : Nat) : nI (n + 1) + (-1) = nI n := by
  rw [← nI_1, Int32.add_assoc, show (1 : Int32) + (-1) = 0 from rfl, Int32.add_zero]
theorem pk_tn {n : Nat} (h : n < 2 ^ 32) : (nI n).toBitVec.toNat = n := Nat.mod_eq_of_lt h
theorem pk_and (x : Int32) {m : Int32} (k : Nat) (hm : m.toBitVec.toNat = 2 ^ k - 1) : x &&& m = nI (x.toBitVec.toNat % 2 ^ k) := by
  apply Int32.toBitVec_inj.mp
  apply BitVec.eq_of_toNat_eq
  rw [Int32.toBitVec_and, BitVec.toNat_and, hm, Nat.and_two_pow_sub_one_eq_mod]
  show _ = (BitVec.ofNat 32 _).toNat
  rw [BitVec.toNat_ofNat]
  exact (Nat.mod_eq_of_lt (Nat.lt_of_le_of_lt (Nat.mod_le _ _) x.toBitVec.isLt)).symm
theorem pk_andN {n : Nat} (h : n < 2 ^ 32) {m : Int32} (k : Nat) (hm : m.toBitVec.toNat = 2 ^ k - 1) : nI n &&& m = nI (n % 2 ^ k) := by
  rw [pk_and _ k hm, pk_tn h]
theorem pk_shl (a s : Int32) (k : Nat) (hs : (s.toBitVec.smod 32).toNat = k) : (a <<< s).toBitVec.toNat = a.toBitVec.toNat * 2 ^ k % 2 ^ 32 := by
  show (a.toBitVec <<< (s.toBitVec.smod 32).toNat).toNat = _
  rw [hs, BitVec.toNat_shiftLeft, Nat.shiftLeft_eq]
theorem pk_shlN {n : Nat} (s : Int32) (k : Nat) (hs : (s.toBitVec.smod 32).toNat = k) (h : n * 2 ^ k < 2 ^ 32) : nI n <<< s = nI (n * 2 ^ k) := by
  apply Int32.toBitVec_inj.mp
  apply BitVec.eq_of_toNat_eq
  have hn : n < 2 ^ 32 := Nat.lt_of_le_of_lt (Nat.le_mul_of_pos_right n (Nat.two_pow_pos k)) h
  rw [pk_shl _ _ k hs, pk_tn hn, pk_tn h, Nat.mod_eq_of_lt h]
theorem pk_ushr (x s : Int32) (k : Nat) (hs : ((s.toUInt32 &&& Int32.toUInt32 31).toBitVec % 32).toNat = k) : (x.toUInt32 >>> (s.toUInt32 &&& Int32.toUInt32 31)).toInt32.toBitVec.toNat = x.toBitVec.toNat / 2 ^ k := by
  have e : (x.toUInt32 >>> (s.toUInt32 &&& Int32.toUInt32 31)).toInt32.toBitVec = x.toBitVec >>> k := by
    rw [← hs]
    exact UInt32.toBitVec_shiftRight _ _
  rw [e, BitVec.toNat_ushiftRight, Nat.shiftRight_eq_div_pow]
theorem pk_ushrN {n : Nat} (hn : n < 2 ^ 32) (s : Int32) (k : Nat) (hs : ((s.toUInt32 &&& Int32.toUInt32 31).toBitVec % 32).toNat = k) : ((nI n).toUInt32 >>> (s.toUInt32 &&& Int32.toUInt32 31)).toInt32 = nI (n / 2 ^ k) := by
  apply Int32.toBitVec_inj.mp
  apply BitVec.eq_of_toNat_eq
  rw [pk_ushr _ s k hs, pk_tn hn, pk_tn (Nat.lt_of_le_of_lt (Nat.div_le_self _ _) hn)]
theorem pk_lT {n : Nat} (h : n < 2 ^ 63) : (lN n).toInt = (n : Int) := lg_ofNat_toInt h
theorem pk_lEQ {a b : Nat} (ha : a < 2 ^ 63) (hb : b < 2 ^ 63) : lN a = lN b ↔ a = b := by
  rw [← Int64.toInt_inj, pk_lT ha, pk_lT hb]; omega
theorem bp_b (x : Int32) : x.toInt8.toInt32 &&& 255 = x &&& 255 := by
  apply Int32.toBitVec_inj.mp
  rw [Int32.toBitVec_and, Int32.toBitVec_and, Int8.toBitVec_toInt32, Int32.toBitVec_toInt8]
  apply BitVec.eq_of_getLsbD_eq
  intro i hi
  rw [BitVec.getLsbD_and, BitVec.getLsbD_and]
  have hm : ∀ i < 32, 8 ≤ i → (255 : Int32).toBitVec.getLsbD i = false := by decide
  rcases Nat.lt_or_ge i 8 with z | z
  · rw [BitVec.getLsbD_signExtend, BitVec.getLsbD_signExtend, if_pos z, if_pos hi]
    simp only [z, hi, decide_true, Bool.true_and]
  · rw [hm i hi z]; simp
theorem wb_tb (n : Nat) : (lN n).toBitVec = BitVec.ofNat 64 n := rfl
theorem wb_inj {a b : Int64} (h : a.toBitVec = b.toBitVec) : a = b := Int64.toBitVec_inj.mp h
theorem wb_tn {n : Nat} (h : n < 2 ^ 64) : (lN n).toBitVec.toNat = n := by rw [wb_tb, BitVec.toNat_ofNat, Nat.mod_eq_of_lt h]
theorem wb_of32 (x : Int32) : ∃ n, n < 2 ^ 32 ∧ x = nI n := ⟨x.toBitVec.toNat, x.toBitVec.isLt, Int32.toBitVec_inj.mp (by show _ = BitVec.ofNat 32 _; simp)⟩
theorem wb_cu : ∀ k, k < 64 → ((nI k).toInt64.toUInt64 &&& Int64.toUInt64 63) = UInt64.ofNat k := by decide +kernel
theorem wb_lt2 {a b : Nat} (h : a < b) : 2 ^ a < 2 ^ b := Nat.pow_lt_pow_right (by decide) h
theorem wb_shr {n k : Nat} (hn : n < 2 ^ 64) (hk : k < 64) : ((lN n).toUInt64 >>> ((nI k).toInt64.toUInt64 &&& Int64.toUInt64 63)).toInt64 = lN (n / 2 ^ k) := by
  rw [wb_cu k hk]
  apply wb_inj
  apply BitVec.eq_of_toNat_eq
  show ((lN n).toUInt64 >>> UInt64.ofNat k).toNat = (BitVec.ofNat 64 _).toNat
  have h1 : (UInt64.ofNat k).toNat = k := by
    show (BitVec.ofNat 64 k).toNat = k
    rw [BitVec.toNat_ofNat, Nat.mod_eq_of_lt (by omega)]
  have h2 : (lN n).toUInt64.toNat = n := wb_tn hn
  rw [UInt64.toNat_shiftRight, h1, h2, Nat.mod_eq_of_lt hk, Nat.shiftRight_eq_div_pow, BitVec.toNat_ofNat, Nat.mod_eq_of_lt (Nat.lt_of_le_of_lt (Nat.div_le_self _ _) hn)]
theorem wb_and {a b : Nat} (ha : a < 2 ^ 64) (hb : b < 2 ^ 64) : lN a &&& lN b = lN (a &&& b) := by
  apply wb_inj
  rw [Int64.toBitVec_and, wb_tb, wb_tb, wb_tb]
  apply BitVec.eq_of_toNat_eq
  rw [BitVec.toNat_and, BitVec.toNat_ofNat, BitVec.toNat_ofNat, BitVec.toNat_ofNat, Nat.mod_eq_of_lt ha, Nat.mod_eq_of_lt hb, Nat.mod_eq_of_lt (Nat.and_lt_two_pow _ hb)]
theorem wb_mask {n k : Nat} (hn : n < 2 ^ 64) (hk : k < 64) : lN n &&& lN (2 ^ k - 1) = lN (n % 2 ^ k) := by
  rw [wb_and hn (by have := wb_lt2 hk; omega), Nat.and_two_pow_sub_one_eq_mod]
end
section
/-! ===== numbers of GcmCounter: bytes read unsigned, the counter of four bytes ===== -/
theorem gc_nb (x : Int32) : vp_nar .byte x &&& 255 = x &&& 255 := by rw [vp_nar_byte, bp_b]
theorem gc_nb2 (x : Int32) : vp_nar .byte x.toInt8.toInt32 &&& 255 = x &&& 255 := by rw [gc_nb, bp_b]
theorem gc_and {n : Nat} (h : n < 4294967296) : nI n &&& 255 = nI (n % 256) := pk_andN h 8 (by decide)
theorem gc_or (a b : Nat) : nI a ||| nI b = nI (a ||| b) := by
  apply Int32.toBitVec_inj.1
  show BitVec.ofNat 32 a ||| BitVec.ofNat 32 b = BitVec.ofNat 32 (a ||| b)
  apply BitVec.eq_of_getLsbD_eq
  intro i hi
  simp [hi]
theorem gc_orS {k P a b : Nat} (hP : 2 ^ k = P) (ha : a < P) : nI (b * P) ||| nI a = nI (b * P + a) := by
  subst hP
  rw [gc_or, ← Nat.shiftLeft_eq, Nat.shiftLeft_add_eq_or_of_lt ha]
theorem gc_n1 (x y : Nat) : x * 16777216 + y * 65536 = (x * 256 + y) * 65536 := by omega
theorem gc_n2 (x y : Nat) : x * 65536 + y * 256 = (x * 256 + y) * 256 := by omega
theorem gc_n3 (p q r s : Nat) : ((p * 256 + q) * 256 + r) * 256 + s = p * 16777216 + q * 65536 + r * 256 + s := by omega
/-- four bytes, put together as count() does -/
theorem gc_count {p q r s : Nat} (hp : p < 256) (hq : q < 256) (hr : r < 256) (hs : s < 256) :
    (((nI p <<< ((24 : Int32) &&& 31)) ||| (nI q <<< ((16 : Int32) &&& 31))) ||| (nI r <<< ((8 : Int32) &&& 31))) ||| nI s = nI (p * 16777216 + q * 65536 + r * 256 + s) := by
  have e1 : nI p <<< ((24 : Int32) &&& 31) = nI (p * 16777216) := pk_shlN _ 24 (by decide) (by omega)
  have e2 : nI q <<< ((16 : Int32) &&& 31) = nI (q * 65536) := pk_shlN _ 16 (by decide) (by omega)
  have e3 : nI r <<< ((8 : Int32) &&& 31) = nI (r * 256) := pk_shlN _ 8 (by decide) (by omega)
  have o1 : nI (p * 16777216) ||| nI (q * 65536) = nI ((p * 256 + q) * 65536) := (gc_orS (k := 24) (by decide) (by omega)).trans (congrArg nI (gc_n1 p q))
  have o2 : nI ((p * 256 + q) * 65536) ||| nI (r * 256) = nI (((p * 256 + q) * 256 + r) * 256) := (gc_orS (k := 16) (by decide) (by omega)).trans (congrArg nI (gc_n2 _ r))
  have o3 : nI (((p * 256 + q) * 256 + r) * 256) ||| nI s = nI (p * 16777216 + q * 65536 + r * 256 + s) := (gc_orS (k := 8) (by decide) (by omega)).trans (congrArg nI (gc_n3 p q r s))
  rw [e1, e2, e3, o1, o2, o3]
theorem gc_m32 : ∀ i, i < 64 → (4294967295#64).getLsbD i = decide (i < 32) := by decide +kernel
/-- the model's constructor -/
theorem gc_c0 {n : Nat} (h : n < 4294967296) : (nI n).toInt64 &&& 4294967295 = lN n := by
  apply wb_inj
  rw [Int64.toBitVec_and, Int32.toBitVec_toInt64, wb_tb]
  show (BitVec.ofNat 32 n).signExtend 64 &&& 4294967295#64 = BitVec.ofNat 64 n
  apply BitVec.eq_of_getLsbD_eq
  intro i hi
  rw [BitVec.getLsbD_and, BitVec.getLsbD_signExtend, gc_m32 i hi, BitVec.getLsbD_ofNat, BitVec.getLsbD_ofNat]
  rcases Nat.lt_or_ge i 32 with z | z
  · simp [hi, z]
  · have hp : 2 ^ 32 ≤ 2 ^ i := Nat.pow_le_pow_right (by decide) z
    rw [Nat.testBit_lt_two_pow (show n < 2 ^ i by omega), decide_eq_false (show ¬ i < 32 by omega)]
    simp
theorem gc_inc {c : Nat} (h : c < 4294967296) : (lN c + 1) &&& 4294967295 = lN ((c + 1) % 4294967296) := by
  rw [lN_1]
  exact wb_mask (n := c + 1) (k := 32) (by omega) (by decide)
theorem gc_zero {c : Nat} (h : c < 4294967296) : lN c = 0 ↔ c = 0 := pk_lEQ (a := c) (b := 0) (by omega) (by decide)
/-- one byte of the model's counter -/
theorem gc_at {c k : Nat} {x : Int32} (hx : x = nI k) (hk : k < 64) (hc : c < 4294967296) :
    ((((lN c).toUInt64 >>> (x.toInt64.toUInt64 &&& Int64.toUInt64 63)).toInt64) &&& 255).toInt32 = nI (c / 2 ^ k % 256) := by
  subst hx
  have hd : c / 2 ^ k ≤ c := Nat.div_le_self _ _
  have e : lN (c / 2 ^ k) &&& 255 = lN (c / 2 ^ k % 256) := wb_mask (n := c / 2 ^ k) (k := 8) (by omega) (by decide)
  rw [wb_shr (by omega) hk, e, lN_i]
theorem gc_keep {f : Nat → Int32} {k j : Nat} {x y : Int32} (h : j ≠ k) (e : f j &&& 255 = y) : upd f k x j &&& 255 = y := by rw [pk_un h]; exact e
theorem gc_set {f : Nat → Int32} {k : Nat} {x y : Int32} (e : x &&& 255 = y) : upd f k x k &&& 255 = y := by rw [pk_us]; exact e
/-- bytes 12 to 15 hold p, q, r, s -/
def gc_B (u : Nat → Int32) (p q r s : Nat) : Prop := (p < 256 ∧ q < 256 ∧ r < 256 ∧ s < 256) ∧ u 12 &&& 255 = nI p ∧ u 13 &&& 255 = nI q ∧ u 14 &&& 255 = nI r ∧ u 15 &&& 255 = nI s
end
section
/-- the twelve bytes of the IV agree, read unsigned; the four bytes of the counter are the digits of the model's long -/
def i_Rel (_ : Nat) (u : SX) (v : SY) : Prop := (∀ j, j < 12 → u j &&& 255 = v.2 j &&& 255) ∧ ∃ p q r s : Nat, gc_B u p q r s ∧ v.1 = lN (p * 16777216 + q * 65536 + r * 256 + s)
theorem i_up {k : Nat} {u : SX} {v : SY} (h : i_Rel k u v) : i_Rel (k + 3) u v := h
theorem i_vc0 (k0 : Int32) : wpX_init (fun u => wpY_init (fun v => i_Rel 1 u v) k0) k0 := by
  obtain ⟨n, hn, rfl⟩ := wb_of32 k0
  intro a1 e1 a2 e2 a3 e3 a4 e4 c ec
  rw [pk_ushrN hn 24 24 (by decide)] at e1
  rw [pk_ushrN hn 16 16 (by decide)] at e2
  rw [pk_ushrN hn 8 8 (by decide)] at e3
  rw [gc_c0 hn] at ec
  have b1 : vp_nar .byte (nI (n / 2 ^ 24)).toInt8.toInt32 &&& 255 = nI (n / 16777216) := by
    rw [gc_nb2, gc_and (by omega)]
    exact congrArg nI (by omega)
  have b2 : vp_nar .byte (nI (n / 2 ^ 16)).toInt8.toInt32 &&& 255 = nI (n / 65536 % 256) := by
    rw [gc_nb2, gc_and (by omega)]
  have b3 : vp_nar .byte (nI (n / 2 ^ 8)).toInt8.toInt32 &&& 255 = nI (n / 256 % 256) := by
    rw [gc_nb2, gc_and (by omega)]
  have b4 : vp_nar .byte (nI n).toInt8.toInt32 &&& 255 = nI (n % 256) := by
    rw [gc_nb2, gc_and (by omega)]
  subst e1 e2 e3 e4 ec
  refine ⟨fun j hj => ?_, n / 16777216, n / 65536 % 256, n / 256 % 256, n % 256, ⟨⟨by omega, by omega, by omega, by omega⟩, ?_, ?_, ?_, ?_⟩, ?_⟩
  · exact gc_keep (by omega) (gc_keep (by omega) (gc_keep (by omega) (gc_keep (by omega) rfl)))
  · exact gc_keep (by decide) (gc_keep (by decide) (gc_keep (by decide) (gc_set b1)))
  · exact gc_keep (by decide) (gc_keep (by decide) (gc_set b2))
  · exact gc_keep (by decide) (gc_set b3)
  · exact gc_set b4
  · show lN n = lN _
    exact congrArg lN (by omega)
theorem i_vc_setIv {k : Nat} {u : SX} {v : SY} (I : i_Rel k u v) (hk : k + 3 ≤ 1537) (v1 : Int32) (v2 : Int32) : wpX_setIv (fun r u' => wpY_setIv (fun r' v' => r' = r ∧ i_Rel (k + 3) u' v') v v1 v2) u v1 v2 := by
  obtain ⟨f, iv⟩ := v
  obtain ⟨hI, p, q, r, s, ⟨hb, h12, h13, h14, h15⟩, hc⟩ := I
  have I' : i_Rel (k + 3) u (f, iv) := ⟨hI, p, q, r, s, ⟨hb, h12, h13, h14, h15⟩, hc⟩
  by_cases h0 : v1 < 0
  · exact br_t h0 (br_t h0 ⟨rfl, I'⟩)
  · by_cases h1 : v1 ≤ 11
    · obtain ⟨j, hj, rfl⟩ := nI_of2 (M := 11) (n := 11) (by decide) h0 h1
      have hcl : (nI j).toNatClampNeg = j := nI_clamp (by omega)
      refine br_f h0 (br_t h1 ⟨vp_in_nI (by omega) (by decide), fun a ea => br_f h0 (br_t h1 ⟨vp_in_nI (by omega) (by decide), fun b eb => ⟨rfl, ?_⟩⟩)⟩)
      rw [hcl] at ea eb
      subst ea eb
      refine ⟨fun i hi => ?_, p, q, r, s, ⟨hb, gc_keep (by omega) h12, gc_keep (by omega) h13, gc_keep (by omega) h14, gc_keep (by omega) h15⟩, hc⟩
      show upd u j _ i &&& 255 = upd iv j _ i &&& 255
      by_cases e : i = j
      · subst e
        rw [pk_us, pk_us, gc_nb2, gc_nb2, Int32.and_assoc]
        rfl
      · rw [pk_un e, pk_un e]
        exact hI i hi
    · exact br_f h0 (br_f h1 (br_f h0 (br_f h1 ⟨rfl, I'⟩)))
theorem i_vc_reset {k : Nat} {u : SX} {v : SY} (I : i_Rel k u v) (hk : k + 3 ≤ 1537) : wpX_reset (fun u' => wpY_reset (fun v' => i_Rel (k + 3) u' v') v) u := by
  obtain ⟨f, iv⟩ := v
  obtain ⟨hI, -⟩ := I
  intro a1 e1 a2 e2 a3 e3 a4 e4
  have z0 : vp_nar .byte 0 &&& 255 = nI 0 := by rw [gc_nb]; decide
  have z1 : vp_nar .byte 1 &&& 255 = nI 1 := by rw [gc_nb]; decide
  subst e1 e2 e3 e4
  refine ⟨fun j hj => ?_, 0, 0, 0, 1, ⟨⟨by omega, by omega, by omega, by omega⟩, ?_, ?_, ?_, ?_⟩, ?_⟩
  · exact gc_keep (by omega) (gc_keep (by omega) (gc_keep (by omega) (gc_keep (by omega) (hI j hj))))
  · exact gc_keep (by decide) (gc_keep (by decide) (gc_keep (by decide) (gc_set z0)))
  · exact gc_keep (by decide) (gc_keep (by decide) (gc_set z0))
  · exact gc_keep (by decide) (gc_set z0)
  · exact gc_set z1
  · rfl
/-- one pass of the component's loop, at byte j + 1 -/
theorem gc_step {post : Int32 → SX → Prop} {n j b : Nat} {a : Nat → Int32} (hj : 11 ≤ j) (hj' : j < 15) (hb : b < 256) (ha : a (j + 1) &&& 255 = nI b)
    (h1 : b = 255 → ∀ w : Int32, w &&& 255 = nI 0 → wX_inc_3 post n (nI j) (upd a (j + 1) w))
    (h2 : b < 255 → ∀ w : Int32, w &&& 255 = nI (b + 1) → post 0 (upd a (j + 1) w)) : wX_inc_3 post (n + 1) (nI (j + 1)) a := by
  have hcl : (nI (j + 1)).toNatClampNeg = j + 1 := nI_clamp (by omega)
  have hin : vp_in (nI (j + 1)) 16 := vp_in_nI (by omega) (by decide)
  have hlt : ¬ nI (j + 1) < 12 := nI_nlt (b := 12) (by omega) (by omega)
  have hv : ((a (nI (j + 1)).toNatClampNeg &&& 255) + 1) &&& 255 = nI ((b + 1) % 256) := by rw [hcl, ha, nI_1, gc_and (by omega)]
  have hw : vp_nar .byte (nI ((b + 1) % 256)).toInt8.toInt32 &&& 255 = nI ((b + 1) % 256) := by
    rw [gc_nb2, gc_and (by omega)]
    exact congrArg nI (by omega)
  refine br_f hlt ⟨hin, nm_r hv ⟨hin, fun a5 e5 => ?_⟩⟩
  rw [hcl] at e5
  subst e5
  by_cases h : b = 255
  · have hz : nI ((b + 1) % 256) = 0 := by rw [h]; rfl
    exact br_t hz (nm_r (pk_m1 j) (h1 h _ (hw.trans hz)))
  · have hnz : ¬ nI ((b + 1) % 256) = 0 := nI_ne0 (by omega) (by omega)
    exact br_f hnz (h2 (by omega) _ (hw.trans (congrArg nI (by omega))))
theorem gc_end {post : Int32 → SX → Prop} {n : Nat} {a : Nat → Int32} (h : post 1 a) : wX_inc_3 post (n + 1) (nI 11) a := br_t (nI_lt (a := 11) (b := 12) (by decide) (by decide)) h
theorem gc_yinc {post : Int32 → SY → Prop} {c : Nat} {iv : Nat → Int32} (hc : c < 4294967296) (h1 : c + 1 = 4294967296 → post 1 (lN 0, iv)) (h0 : c + 1 < 4294967296 → post 0 (lN (c + 1), iv)) : wpY_inc post (lN c, iv) := by
  intro f ef
  rw [gc_inc hc] at ef ⊢
  subst ef
  by_cases h : c + 1 = 4294967296
  · have e : (c + 1) % 4294967296 = 0 := by omega
    rw [e]
    exact br_t rfl (h1 h)
  · have e : (c + 1) % 4294967296 = c + 1 := by omega
    rw [e]
    refine br_f ?_ (h0 (by omega))
    rw [gc_zero (by omega)]
    omega
theorem i_vc_inc {k : Nat} {u : SX} {v : SY} (I : i_Rel k u v) (hk : k + 3 ≤ 1537) : wpX_inc (fun r u' => wpY_inc (fun r' v' => r' = r ∧ i_Rel (k + 3) u' v') v) u := by
  obtain ⟨f, iv⟩ := v
  obtain ⟨hI, p, q, r, s, ⟨⟨hp, hq, hr, hs⟩, h12, h13, h14, h15⟩, hc⟩ := I
  have hc : f = lN (p * 16777216 + q * 65536 + r * 256 + s) := hc
  subst hc
  refine ⟨5, gc_step (j := 14) (by decide) (by decide) hs h15 (fun e w hw => ?_) (fun l w hw => ?_)⟩
  · refine gc_step (j := 13) (by decide) (by decide) hr (gc_keep (by decide) h14) (fun e' w' hw' => ?_) (fun l w' hw' => ?_)
    · refine gc_step (j := 12) (by decide) (by decide) hq (gc_keep (by decide) (gc_keep (by decide) h13)) (fun e'' w'' hw'' => ?_) (fun l w'' hw'' => ?_)
      · refine gc_step (j := 11) (by decide) (by decide) hp (gc_keep (by decide) (gc_keep (by decide) (gc_keep (by decide) h12))) (fun e3 w3 hw3 => ?_) (fun l w3 hw3 => ?_)
        · refine gc_end (gc_yinc (by omega) (fun _ => ⟨rfl, fun j hj => gc_keep (by omega) (gc_keep (by omega) (gc_keep (by omega) (gc_keep (by omega) (hI j hj)))), 0, 0, 0, 0, ⟨⟨by omega, by omega, by omega, by omega⟩, ?_, ?_, ?_, ?_⟩, rfl⟩) (fun z => absurd z (by omega)))
          · exact gc_set hw3
          · exact gc_keep (by decide) (gc_set hw'')
          · exact gc_keep (by decide) (gc_keep (by decide) (gc_set hw'))
          · exact gc_keep (by decide) (gc_keep (by decide) (gc_keep (by decide) (gc_set hw)))
        · refine gc_yinc (by omega) (fun z => absurd z (by omega)) (fun _ => ⟨rfl, fun j hj => gc_keep (by omega) (gc_keep (by omega) (gc_keep (by omega) (gc_keep (by omega) (hI j hj)))), p + 1, 0, 0, 0, ⟨⟨by omega, by omega, by omega, by omega⟩, ?_, ?_, ?_, ?_⟩, congrArg lN (by omega)⟩)
          · exact gc_set hw3
          · exact gc_keep (by decide) (gc_set hw'')
          · exact gc_keep (by decide) (gc_keep (by decide) (gc_set hw'))
          · exact gc_keep (by decide) (gc_keep (by decide) (gc_keep (by decide) (gc_set hw)))
      · refine gc_yinc (by omega) (fun z => absurd z (by omega)) (fun _ => ⟨rfl, fun j hj => gc_keep (by omega) (gc_keep (by omega) (gc_keep (by omega) (hI j hj))), p, q + 1, 0, 0, ⟨⟨by omega, by omega, by omega, by omega⟩, ?_, ?_, ?_, ?_⟩, congrArg lN (by omega)⟩)
        · exact gc_keep (by decide) (gc_keep (by decide) (gc_keep (by decide) h12))
        · exact gc_set hw''
        · exact gc_keep (by decide) (gc_set hw')
        · exact gc_keep (by decide) (gc_keep (by decide) (gc_set hw))
    · refine gc_yinc (by omega) (fun z => absurd z (by omega)) (fun _ => ⟨rfl, fun j hj => gc_keep (by omega) (gc_keep (by omega) (hI j hj)), p, q, r + 1, 0, ⟨⟨by omega, by omega, by omega, by omega⟩, ?_, ?_, ?_, ?_⟩, congrArg lN (by omega)⟩)
      · exact gc_keep (by decide) (gc_keep (by decide) h12)
      · exact gc_keep (by decide) (gc_keep (by decide) h13)
      · exact gc_set hw'
      · exact gc_keep (by decide) (gc_set hw)
  · refine gc_yinc (by omega) (fun z => absurd z (by omega)) (fun _ => ⟨rfl, fun j hj => gc_keep (by omega) (hI j hj), p, q, r, s + 1, ⟨⟨by omega, by omega, by omega, by omega⟩, ?_, ?_, ?_, ?_⟩, congrArg lN (by omega)⟩)
    · exact gc_keep (by decide) h12
    · exact gc_keep (by decide) h13
    · exact gc_keep (by decide) h14
    · exact gc_set hw
theorem i_vc_count {k : Nat} {u : SX} {v : SY} (I : i_Rel k u v) (hk : k + 3 ≤ 1537) : wpX_count (fun r => wpY_count (fun r' => r' = r ∧ i_Rel (k + 3) u v) v) u := by
  obtain ⟨f, iv⟩ := v
  have I' : i_Rel (k + 3) u (f, iv) := I
  obtain ⟨hI, p, q, r, s, ⟨⟨hp, hq, hr, hs⟩, h12, h13, h14, h15⟩, hc⟩ := I
  have hc : f = lN (p * 16777216 + q * 65536 + r * 256 + s) := hc
  refine ⟨?_, I'⟩
  rw [h12, h13, h14, h15, gc_count hp hq hr hs, hc, lN_i]
theorem i_vc_at {k : Nat} {u : SX} {v : SY} (I : i_Rel k u v) (hk : k + 3 ≤ 1537) (v1 : Int32) : wpX_at (fun r => wpY_at (fun r' => r' = r ∧ i_Rel (k + 3) u v) v v1) u v1 := by
  obtain ⟨f, iv⟩ := v
  have I' : i_Rel (k + 3) u (f, iv) := I
  obtain ⟨hI, p, q, r, s, ⟨⟨hp, hq, hr, hs⟩, h12, h13, h14, h15⟩, hc⟩ := I
  have hc : f = lN (p * 16777216 + q * 65536 + r * 256 + s) := hc
  by_cases h0 : v1 < 0
  · exact br_t h0 (br_t h0 ⟨rfl, I'⟩)
  · by_cases h1 : v1 ≤ 15
    · obtain ⟨j, hj, rfl⟩ := nI_of2 (M := 15) (n := 15) (by decide) h0 h1
      have hcl : (nI j).toNatClampNeg = j := nI_clamp (by omega)
      refine br_f h0 (br_t h1 ⟨vp_in_nI (by omega) (by decide), br_f h0 (br_t h1 ?_)⟩)
      rcases Nat.lt_or_ge j 12 with z | z
      · refine br_f (nI_ge (b := 12) z (by decide)) ⟨vp_in_nI z (by decide), ?_, I'⟩
        rw [hcl]
        exact (hI j z).symm
      · refine br_t (nI_le (a := 12) z (by omega)) ⟨?_, I'⟩
        rw [hcl, hc]
        have hj4 : j = 12 ∨ j = 13 ∨ j = 14 ∨ j = 15 := by omega
        rcases hj4 with rfl | rfl | rfl | rfl
        · rw [gc_at (k := 24) (by decide) (by decide) (by omega), h12]
          exact congrArg nI (by omega)
        · rw [gc_at (k := 16) (by decide) (by decide) (by omega), h13]
          exact congrArg nI (by omega)
        · rw [gc_at (k := 8) (by decide) (by decide) (by omega), h14]
          exact congrArg nI (by omega)
        · rw [gc_at (k := 0) (by decide) (by decide) (by omega), h15]
          exact congrArg nI (by omega)
    · exact br_f h0 (br_f h1 (br_f h0 (br_f h1 ⟨rfl, I'⟩)))
end
